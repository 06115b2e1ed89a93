/-! Foundrymark -/
set_option maxRecDepth 100000
def RX1 : String := "Foundrymark"
def TX1 : u_T := fun k => match k with
  | 0 => ("Foundrymark", "machines", "Ljava/util/ArrayList;", true)
  | 1 => ("Foundrymark", "parts", "Ljava/util/ArrayList;", true)
  | 2 => ("Foundrymark", "lots", "Ljava/util/ArrayList;", true)
  | 3 => ("Foundrymark", "orders", "Ljava/util/ArrayList;", true)
  | 4 => ("Foundrymark", "suppliers", "[LFoundrymark$Supplier;", true)
  | 5 => ("Foundrymark", "bought", "I", false)
  | 6 => ("Foundrymark", "now", "I", false)
  | 7 => ("Foundrymark", "received", "J", false)
  | 8 => ("Foundrymark", "worked", "J", false)
  | _ => ("Foundrymark", "lost", "J", false)
def tyX1 : Nat → FieldType := fun k => match k with
  | 0 => .object "java/util/ArrayList"
  | 1 => .object "java/util/ArrayList"
  | 2 => .object "java/util/ArrayList"
  | 3 => .object "java/util/ArrayList"
  | 4 => .array (.object "Foundrymark$Supplier")
  | 5 => .int
  | 6 => .int
  | 7 => .long
  | 8 => .long
  | _ => .long
abbrev wsX10 : List Cond := u_ws RX1 TX1 10
theorem nmX1 : ∀ a, a < 10 → ∀ b, b < 10 → a ≠ b → (TX1 a).2.1 ≠ (TX1 b).2.1 := by decide +kernel
theorem tyX1_ok : ∀ k, k < 10 → parseFieldDescriptor (TX1 k).2.2.1 = some (tyX1 k) := by decide +kernel
abbrev cX1_init : ByteArray := prog_1_method_7_code
def yX1_init : MethodName := ⟨RX1, "<init>", "()V"⟩
def dkwX1_init_3 : List UInt8 := [187, 0, 40, 89, 183, 0, 46, 83, 132, 1, 1, 167, 255, 235, 177]
abbrev dktX1_init_3 : List UInt8 := dkwX1_init_3 ++ []
def dkwX1_init_2 : List UInt8 := [181, 0, 37, 42, 7, 189, 0, 40, 181, 0, 42, 3, 60, 27, 7, 162, 0, 22, 42, 180, 0, 42, 27]
abbrev dktX1_init_2 : List UInt8 := dkwX1_init_2 ++ dktX1_init_3
def dkwX1_init_1 : List UInt8 := [181, 0, 31, 42, 187, 0, 22, 89, 183, 0, 24, 181, 0, 34, 42, 187, 0, 22, 89, 183, 0, 24]
abbrev dktX1_init_1 : List UInt8 := dkwX1_init_1 ++ dktX1_init_2
def dkwX1_init_0 : List UInt8 := [42, 183, 0, 19, 42, 187, 0, 22, 89, 183, 0, 24, 181, 0, 25, 42, 187, 0, 22, 89, 183, 0, 24]
abbrev dktX1_init_0 : List UInt8 := dkwX1_init_0 ++ dktX1_init_1
theorem dksX1_init_0 : cX1_init.data.toList.drop 0 = dktX1_init_0 := by decide +kernel
theorem dksX1_init_1 : cX1_init.data.toList.drop 23 = dktX1_init_1 := dk_seg dksX1_init_0 23 rfl rfl
theorem dksX1_init_2 : cX1_init.data.toList.drop 45 = dktX1_init_2 := dk_seg dksX1_init_1 22 rfl rfl
theorem dksX1_init_3 : cX1_init.data.toList.drop 68 = dktX1_init_3 := dk_seg dksX1_init_2 23 rfl rfl
theorem dX1_init_0 : decode cX1_init 0 = .ok (.aload_n 0, 1) := dk_42 (dk_at dksX1_init_0 0 rfl rfl)
theorem dX1_init_1 : decode cX1_init 1 = .ok (.invokespecial 19, 3) := dk_183 0 19 (dk_at dksX1_init_0 1 rfl rfl)
theorem dX1_init_4 : decode cX1_init 4 = .ok (.aload_n 0, 1) := dk_42 (dk_at dksX1_init_0 4 rfl rfl)
theorem dX1_init_5 : decode cX1_init 5 = .ok (.new 22, 3) := dk_187 0 22 (dk_at dksX1_init_0 5 rfl rfl)
theorem dX1_init_8 : decode cX1_init 8 = .ok (.dup, 1) := dk_89 (dk_at dksX1_init_0 8 rfl rfl)
theorem dX1_init_9 : decode cX1_init 9 = .ok (.invokespecial 24, 3) := dk_183 0 24 (dk_at dksX1_init_0 9 rfl rfl)
theorem dX1_init_12 : decode cX1_init 12 = .ok (.putfield 25, 3) := dk_181 0 25 (dk_at dksX1_init_0 12 rfl rfl)
theorem dX1_init_15 : decode cX1_init 15 = .ok (.aload_n 0, 1) := dk_42 (dk_at dksX1_init_0 15 rfl rfl)
theorem dX1_init_16 : decode cX1_init 16 = .ok (.new 22, 3) := dk_187 0 22 (dk_at dksX1_init_0 16 rfl rfl)
theorem dX1_init_19 : decode cX1_init 19 = .ok (.dup, 1) := dk_89 (dk_at dksX1_init_0 19 rfl rfl)
theorem dX1_init_20 : decode cX1_init 20 = .ok (.invokespecial 24, 3) := dk_183 0 24 (dk_at dksX1_init_0 20 rfl rfl)
theorem dX1_init_23 : decode cX1_init 23 = .ok (.putfield 31, 3) := dk_181 0 31 (dk_at dksX1_init_1 0 rfl rfl)
theorem dX1_init_26 : decode cX1_init 26 = .ok (.aload_n 0, 1) := dk_42 (dk_at dksX1_init_1 3 rfl rfl)
theorem dX1_init_27 : decode cX1_init 27 = .ok (.new 22, 3) := dk_187 0 22 (dk_at dksX1_init_1 4 rfl rfl)
theorem dX1_init_30 : decode cX1_init 30 = .ok (.dup, 1) := dk_89 (dk_at dksX1_init_1 7 rfl rfl)
theorem dX1_init_31 : decode cX1_init 31 = .ok (.invokespecial 24, 3) := dk_183 0 24 (dk_at dksX1_init_1 8 rfl rfl)
theorem dX1_init_34 : decode cX1_init 34 = .ok (.putfield 34, 3) := dk_181 0 34 (dk_at dksX1_init_1 11 rfl rfl)
theorem dX1_init_37 : decode cX1_init 37 = .ok (.aload_n 0, 1) := dk_42 (dk_at dksX1_init_1 14 rfl rfl)
theorem dX1_init_38 : decode cX1_init 38 = .ok (.new 22, 3) := dk_187 0 22 (dk_at dksX1_init_1 15 rfl rfl)
theorem dX1_init_41 : decode cX1_init 41 = .ok (.dup, 1) := dk_89 (dk_at dksX1_init_1 18 rfl rfl)
theorem dX1_init_42 : decode cX1_init 42 = .ok (.invokespecial 24, 3) := dk_183 0 24 (dk_at dksX1_init_1 19 rfl rfl)
theorem dX1_init_45 : decode cX1_init 45 = .ok (.putfield 37, 3) := dk_181 0 37 (dk_at dksX1_init_2 0 rfl rfl)
theorem dX1_init_48 : decode cX1_init 48 = .ok (.aload_n 0, 1) := dk_42 (dk_at dksX1_init_2 3 rfl rfl)
theorem dX1_init_49 : decode cX1_init 49 = .ok (.iconst 4, 1) := dk_7 (dk_at dksX1_init_2 4 rfl rfl)
theorem dX1_init_50 : decode cX1_init 50 = .ok (.anewarray 40, 3) := dk_189 0 40 (dk_at dksX1_init_2 5 rfl rfl)
theorem dX1_init_53 : decode cX1_init 53 = .ok (.putfield 42, 3) := dk_181 0 42 (dk_at dksX1_init_2 8 rfl rfl)
theorem dX1_init_56 : decode cX1_init 56 = .ok (.iconst 0, 1) := dk_3 (dk_at dksX1_init_2 11 rfl rfl)
theorem dX1_init_57 : decode cX1_init 57 = .ok (.istore_n 1, 1) := dk_60 (dk_at dksX1_init_2 12 rfl rfl)
theorem dX1_init_58 : decode cX1_init 58 = .ok (.iload_n 1, 1) := dk_27 (dk_at dksX1_init_2 13 rfl rfl)
theorem dX1_init_59 : decode cX1_init 59 = .ok (.iconst 4, 1) := dk_7 (dk_at dksX1_init_2 14 rfl rfl)
theorem dX1_init_60 : decode cX1_init 60 = .ok (.if_icmp .ge 22, 3) := dk_162 0 22 (dk_at dksX1_init_2 15 rfl rfl)
theorem dX1_init_63 : decode cX1_init 63 = .ok (.aload_n 0, 1) := dk_42 (dk_at dksX1_init_2 18 rfl rfl)
theorem dX1_init_64 : decode cX1_init 64 = .ok (.getfield 42, 3) := dk_180 0 42 (dk_at dksX1_init_2 19 rfl rfl)
theorem dX1_init_67 : decode cX1_init 67 = .ok (.iload_n 1, 1) := dk_27 (dk_at dksX1_init_2 22 rfl rfl)
theorem dX1_init_68 : decode cX1_init 68 = .ok (.new 40, 3) := dk_187 0 40 (dk_at dksX1_init_3 0 rfl rfl)
theorem dX1_init_71 : decode cX1_init 71 = .ok (.dup, 1) := dk_89 (dk_at dksX1_init_3 3 rfl rfl)
theorem dX1_init_72 : decode cX1_init 72 = .ok (.invokespecial 46, 3) := dk_183 0 46 (dk_at dksX1_init_3 4 rfl rfl)
theorem dX1_init_75 : decode cX1_init 75 = .ok (.aastore, 1) := dk_83 (dk_at dksX1_init_3 7 rfl rfl)
theorem dX1_init_76 : decode cX1_init 76 = .ok (.iinc 1 1, 3) := dk_132 1 1 (dk_at dksX1_init_3 8 rfl rfl)
theorem dX1_init_79 : decode cX1_init 79 = .ok (.goto (-21), 3) := dk_167 255 235 (dk_at dksX1_init_3 11 rfl rfl)
theorem dX1_init_82 : decode cX1_init 82 = .ok (.return_, 1) := dk_177 (dk_at dksX1_init_3 14 rfl rfl)
abbrev cX1_lots : ByteArray := prog_1_method_24_code
def yX1_lots : MethodName := ⟨RX1, "lots", "()I"⟩
def dkwX1_lots_0 : List UInt8 := [42, 180, 0, 34, 182, 0, 55, 172]
abbrev dktX1_lots_0 : List UInt8 := dkwX1_lots_0 ++ []
theorem dksX1_lots_0 : cX1_lots.data.toList.drop 0 = dktX1_lots_0 := by decide +kernel
theorem dX1_lots_0 : decode cX1_lots 0 = .ok (.aload_n 0, 1) := dk_42 (dk_at dksX1_lots_0 0 rfl rfl)
theorem dX1_lots_1 : decode cX1_lots 1 = .ok (.getfield 34, 3) := dk_180 0 34 (dk_at dksX1_lots_0 1 rfl rfl)
theorem dX1_lots_4 : decode cX1_lots 4 = .ok (.invokevirtual 55, 3) := dk_182 0 55 (dk_at dksX1_lots_0 4 rfl rfl)
theorem dX1_lots_7 : decode cX1_lots 7 = .ok (.ireturn, 1) := dk_172 (dk_at dksX1_lots_0 7 rfl rfl)
abbrev cX1_isSound : ByteArray := prog_1_method_64_code
def yX1_isSound : MethodName := ⟨RX1, "isSound", "()Z"⟩
def dkwX1_isSound_4 : List UInt8 := [167, 0, 4, 3, 172]
abbrev dktX1_isSound_4 : List UInt8 := dkwX1_isSound_4 ++ []
def dkwX1_isSound_3 : List UInt8 := [167, 255, 234, 27, 28, 160, 0, 21, 42, 182, 1, 204, 153, 0, 14, 42, 182, 1, 207, 153, 0, 7, 4]
abbrev dktX1_isSound_3 : List UInt8 := dkwX1_isSound_3 ++ dktX1_isSound_4
def dkwX1_isSound_2 : List UInt8 := [29, 42, 180, 0, 34, 182, 0, 55, 162, 0, 17, 28, 42, 29, 182, 1, 200, 96, 61, 132, 3, 1]
abbrev dktX1_isSound_2 : List UInt8 := dkwX1_isSound_2 ++ dktX1_isSound_3
def dkwX1_isSound_1 : List UInt8 := [185, 0, 165, 1, 0, 192, 0, 151, 78, 27, 42, 45, 182, 1, 184, 96, 60, 167, 255, 229, 3, 61, 3, 62]
abbrev dktX1_isSound_1 : List UInt8 := dkwX1_isSound_1 ++ dktX1_isSound_2
def dkwX1_isSound_0 : List UInt8 := [3, 60, 42, 180, 0, 37, 182, 0, 155, 77, 44, 185, 0, 159, 1, 0, 153, 0, 24, 44]
abbrev dktX1_isSound_0 : List UInt8 := dkwX1_isSound_0 ++ dktX1_isSound_1
theorem dksX1_isSound_0 : cX1_isSound.data.toList.drop 0 = dktX1_isSound_0 := by decide +kernel
theorem dksX1_isSound_1 : cX1_isSound.data.toList.drop 20 = dktX1_isSound_1 := dk_seg dksX1_isSound_0 20 rfl rfl
theorem dksX1_isSound_2 : cX1_isSound.data.toList.drop 44 = dktX1_isSound_2 := dk_seg dksX1_isSound_1 24 rfl rfl
theorem dksX1_isSound_3 : cX1_isSound.data.toList.drop 66 = dktX1_isSound_3 := dk_seg dksX1_isSound_2 22 rfl rfl
theorem dksX1_isSound_4 : cX1_isSound.data.toList.drop 89 = dktX1_isSound_4 := dk_seg dksX1_isSound_3 23 rfl rfl
theorem dX1_isSound_0 : decode cX1_isSound 0 = .ok (.iconst 0, 1) := dk_3 (dk_at dksX1_isSound_0 0 rfl rfl)
theorem dX1_isSound_1 : decode cX1_isSound 1 = .ok (.istore_n 1, 1) := dk_60 (dk_at dksX1_isSound_0 1 rfl rfl)
theorem dX1_isSound_2 : decode cX1_isSound 2 = .ok (.aload_n 0, 1) := dk_42 (dk_at dksX1_isSound_0 2 rfl rfl)
theorem dX1_isSound_3 : decode cX1_isSound 3 = .ok (.getfield 37, 3) := dk_180 0 37 (dk_at dksX1_isSound_0 3 rfl rfl)
theorem dX1_isSound_6 : decode cX1_isSound 6 = .ok (.invokevirtual 155, 3) := dk_182 0 155 (dk_at dksX1_isSound_0 6 rfl rfl)
theorem dX1_isSound_9 : decode cX1_isSound 9 = .ok (.astore_n 2, 1) := dk_77 (dk_at dksX1_isSound_0 9 rfl rfl)
theorem dX1_isSound_10 : decode cX1_isSound 10 = .ok (.aload_n 2, 1) := dk_44 (dk_at dksX1_isSound_0 10 rfl rfl)
theorem dX1_isSound_11 : decode cX1_isSound 11 = .ok (.invokeinterface 159 1, 5) := by decide +kernel
theorem dX1_isSound_16 : decode cX1_isSound 16 = .ok (.ifCond .eq 24, 3) := dk_153 0 24 (dk_at dksX1_isSound_0 16 rfl rfl)
theorem dX1_isSound_19 : decode cX1_isSound 19 = .ok (.aload_n 2, 1) := dk_44 (dk_at dksX1_isSound_0 19 rfl rfl)
theorem dX1_isSound_20 : decode cX1_isSound 20 = .ok (.invokeinterface 165 1, 5) := by decide +kernel
theorem dX1_isSound_25 : decode cX1_isSound 25 = .ok (.checkcast 151, 3) := dk_192 0 151 (dk_at dksX1_isSound_1 5 rfl rfl)
theorem dX1_isSound_28 : decode cX1_isSound 28 = .ok (.astore_n 3, 1) := dk_78 (dk_at dksX1_isSound_1 8 rfl rfl)
theorem dX1_isSound_29 : decode cX1_isSound 29 = .ok (.iload_n 1, 1) := dk_27 (dk_at dksX1_isSound_1 9 rfl rfl)
theorem dX1_isSound_30 : decode cX1_isSound 30 = .ok (.aload_n 0, 1) := dk_42 (dk_at dksX1_isSound_1 10 rfl rfl)
theorem dX1_isSound_31 : decode cX1_isSound 31 = .ok (.aload_n 3, 1) := dk_45 (dk_at dksX1_isSound_1 11 rfl rfl)
theorem dX1_isSound_32 : decode cX1_isSound 32 = .ok (.invokevirtual 440, 3) := dk_182 1 184 (dk_at dksX1_isSound_1 12 rfl rfl)
theorem dX1_isSound_35 : decode cX1_isSound 35 = .ok (.iadd, 1) := dk_96 (dk_at dksX1_isSound_1 15 rfl rfl)
theorem dX1_isSound_36 : decode cX1_isSound 36 = .ok (.istore_n 1, 1) := dk_60 (dk_at dksX1_isSound_1 16 rfl rfl)
theorem dX1_isSound_37 : decode cX1_isSound 37 = .ok (.goto (-27), 3) := dk_167 255 229 (dk_at dksX1_isSound_1 17 rfl rfl)
theorem dX1_isSound_40 : decode cX1_isSound 40 = .ok (.iconst 0, 1) := dk_3 (dk_at dksX1_isSound_1 20 rfl rfl)
theorem dX1_isSound_41 : decode cX1_isSound 41 = .ok (.istore_n 2, 1) := dk_61 (dk_at dksX1_isSound_1 21 rfl rfl)
theorem dX1_isSound_42 : decode cX1_isSound 42 = .ok (.iconst 0, 1) := dk_3 (dk_at dksX1_isSound_1 22 rfl rfl)
theorem dX1_isSound_43 : decode cX1_isSound 43 = .ok (.istore_n 3, 1) := dk_62 (dk_at dksX1_isSound_1 23 rfl rfl)
theorem dX1_isSound_44 : decode cX1_isSound 44 = .ok (.iload_n 3, 1) := dk_29 (dk_at dksX1_isSound_2 0 rfl rfl)
theorem dX1_isSound_45 : decode cX1_isSound 45 = .ok (.aload_n 0, 1) := dk_42 (dk_at dksX1_isSound_2 1 rfl rfl)
theorem dX1_isSound_46 : decode cX1_isSound 46 = .ok (.getfield 34, 3) := dk_180 0 34 (dk_at dksX1_isSound_2 2 rfl rfl)
theorem dX1_isSound_49 : decode cX1_isSound 49 = .ok (.invokevirtual 55, 3) := dk_182 0 55 (dk_at dksX1_isSound_2 5 rfl rfl)
theorem dX1_isSound_52 : decode cX1_isSound 52 = .ok (.if_icmp .ge 17, 3) := dk_162 0 17 (dk_at dksX1_isSound_2 8 rfl rfl)
theorem dX1_isSound_55 : decode cX1_isSound 55 = .ok (.iload_n 2, 1) := dk_28 (dk_at dksX1_isSound_2 11 rfl rfl)
theorem dX1_isSound_56 : decode cX1_isSound 56 = .ok (.aload_n 0, 1) := dk_42 (dk_at dksX1_isSound_2 12 rfl rfl)
theorem dX1_isSound_57 : decode cX1_isSound 57 = .ok (.iload_n 3, 1) := dk_29 (dk_at dksX1_isSound_2 13 rfl rfl)
theorem dX1_isSound_58 : decode cX1_isSound 58 = .ok (.invokevirtual 456, 3) := dk_182 1 200 (dk_at dksX1_isSound_2 14 rfl rfl)
theorem dX1_isSound_61 : decode cX1_isSound 61 = .ok (.iadd, 1) := dk_96 (dk_at dksX1_isSound_2 17 rfl rfl)
theorem dX1_isSound_62 : decode cX1_isSound 62 = .ok (.istore_n 2, 1) := dk_61 (dk_at dksX1_isSound_2 18 rfl rfl)
theorem dX1_isSound_63 : decode cX1_isSound 63 = .ok (.iinc 3 1, 3) := dk_132 3 1 (dk_at dksX1_isSound_2 19 rfl rfl)
theorem dX1_isSound_66 : decode cX1_isSound 66 = .ok (.goto (-22), 3) := dk_167 255 234 (dk_at dksX1_isSound_3 0 rfl rfl)
theorem dX1_isSound_69 : decode cX1_isSound 69 = .ok (.iload_n 1, 1) := dk_27 (dk_at dksX1_isSound_3 3 rfl rfl)
theorem dX1_isSound_70 : decode cX1_isSound 70 = .ok (.iload_n 2, 1) := dk_28 (dk_at dksX1_isSound_3 4 rfl rfl)
theorem dX1_isSound_71 : decode cX1_isSound 71 = .ok (.if_icmp .ne 21, 3) := dk_160 0 21 (dk_at dksX1_isSound_3 5 rfl rfl)
theorem dX1_isSound_74 : decode cX1_isSound 74 = .ok (.aload_n 0, 1) := dk_42 (dk_at dksX1_isSound_3 8 rfl rfl)
theorem dX1_isSound_75 : decode cX1_isSound 75 = .ok (.invokevirtual 460, 3) := dk_182 1 204 (dk_at dksX1_isSound_3 9 rfl rfl)
theorem dX1_isSound_78 : decode cX1_isSound 78 = .ok (.ifCond .eq 14, 3) := dk_153 0 14 (dk_at dksX1_isSound_3 12 rfl rfl)
theorem dX1_isSound_81 : decode cX1_isSound 81 = .ok (.aload_n 0, 1) := dk_42 (dk_at dksX1_isSound_3 15 rfl rfl)
theorem dX1_isSound_82 : decode cX1_isSound 82 = .ok (.invokevirtual 463, 3) := dk_182 1 207 (dk_at dksX1_isSound_3 16 rfl rfl)
theorem dX1_isSound_85 : decode cX1_isSound 85 = .ok (.ifCond .eq 7, 3) := dk_153 0 7 (dk_at dksX1_isSound_3 19 rfl rfl)
theorem dX1_isSound_88 : decode cX1_isSound 88 = .ok (.iconst 1, 1) := dk_4 (dk_at dksX1_isSound_3 22 rfl rfl)
theorem dX1_isSound_89 : decode cX1_isSound 89 = .ok (.goto 4, 3) := dk_167 0 4 (dk_at dksX1_isSound_4 0 rfl rfl)
theorem dX1_isSound_92 : decode cX1_isSound 92 = .ok (.iconst 0, 1) := dk_3 (dk_at dksX1_isSound_4 3 rfl rfl)
theorem dX1_isSound_93 : decode cX1_isSound 93 = .ok (.ireturn, 1) := dk_172 (dk_at dksX1_isSound_4 4 rfl rfl)
abbrev cX1_lotsInIt : ByteArray := prog_1_method_56_code
def yX1_lotsInIt : MethodName := ⟨RX1, "lotsInIt", "(LFoundrymark$Order;)I"⟩
def dkwX1_lotsInIt_4 : List UInt8 := [167, 255, 226, 29, 172]
abbrev dktX1_lotsInIt_4 : List UInt8 := dkwX1_lotsInIt_4 ++ []
def dkwX1_lotsInIt_3 : List UInt8 := [25, 4, 21, 6, 51, 54, 7, 29, 21, 7, 153, 0, 7, 4, 167, 0, 4, 3, 96, 62, 132, 6, 1]
abbrev dktX1_lotsInIt_3 : List UInt8 := dkwX1_lotsInIt_3 ++ dktX1_lotsInIt_4
def dkwX1_lotsInIt_2 : List UInt8 := [167, 255, 227, 3, 62, 44, 58, 4, 25, 4, 190, 54, 5, 3, 54, 6, 21, 6, 21, 5, 162, 0, 29]
abbrev dktX1_lotsInIt_2 : List UInt8 := dkwX1_lotsInIt_2 ++ dktX1_lotsInIt_3
def dkwX1_lotsInIt_1 : List UInt8 := [153, 0, 26, 45, 185, 0, 165, 1, 0, 192, 0, 169, 58, 4, 25, 4, 180, 0, 171, 44, 184, 1, 180]
abbrev dktX1_lotsInIt_1 : List UInt8 := dkwX1_lotsInIt_1 ++ dktX1_lotsInIt_2
def dkwX1_lotsInIt_0 : List UInt8 := [42, 180, 0, 34, 182, 0, 55, 188, 4, 77, 43, 180, 1, 151, 182, 0, 155, 78, 45, 185, 0, 159, 1, 0]
abbrev dktX1_lotsInIt_0 : List UInt8 := dkwX1_lotsInIt_0 ++ dktX1_lotsInIt_1
theorem dksX1_lotsInIt_0 : cX1_lotsInIt.data.toList.drop 0 = dktX1_lotsInIt_0 := by decide +kernel
theorem dksX1_lotsInIt_1 : cX1_lotsInIt.data.toList.drop 24 = dktX1_lotsInIt_1 := dk_seg dksX1_lotsInIt_0 24 rfl rfl
theorem dksX1_lotsInIt_2 : cX1_lotsInIt.data.toList.drop 47 = dktX1_lotsInIt_2 := dk_seg dksX1_lotsInIt_1 23 rfl rfl
theorem dksX1_lotsInIt_3 : cX1_lotsInIt.data.toList.drop 70 = dktX1_lotsInIt_3 := dk_seg dksX1_lotsInIt_2 23 rfl rfl
theorem dksX1_lotsInIt_4 : cX1_lotsInIt.data.toList.drop 93 = dktX1_lotsInIt_4 := dk_seg dksX1_lotsInIt_3 23 rfl rfl
theorem dX1_lotsInIt_0 : decode cX1_lotsInIt 0 = .ok (.aload_n 0, 1) := dk_42 (dk_at dksX1_lotsInIt_0 0 rfl rfl)
theorem dX1_lotsInIt_1 : decode cX1_lotsInIt 1 = .ok (.getfield 34, 3) := dk_180 0 34 (dk_at dksX1_lotsInIt_0 1 rfl rfl)
theorem dX1_lotsInIt_4 : decode cX1_lotsInIt 4 = .ok (.invokevirtual 55, 3) := dk_182 0 55 (dk_at dksX1_lotsInIt_0 4 rfl rfl)
theorem dX1_lotsInIt_7 : decode cX1_lotsInIt 7 = .ok (.newarray .boolean, 2) := dk_188_4 (dk_at dksX1_lotsInIt_0 7 rfl rfl)
theorem dX1_lotsInIt_9 : decode cX1_lotsInIt 9 = .ok (.astore_n 2, 1) := dk_77 (dk_at dksX1_lotsInIt_0 9 rfl rfl)
theorem dX1_lotsInIt_10 : decode cX1_lotsInIt 10 = .ok (.aload_n 1, 1) := dk_43 (dk_at dksX1_lotsInIt_0 10 rfl rfl)
theorem dX1_lotsInIt_11 : decode cX1_lotsInIt 11 = .ok (.getfield 407, 3) := dk_180 1 151 (dk_at dksX1_lotsInIt_0 11 rfl rfl)
theorem dX1_lotsInIt_14 : decode cX1_lotsInIt 14 = .ok (.invokevirtual 155, 3) := dk_182 0 155 (dk_at dksX1_lotsInIt_0 14 rfl rfl)
theorem dX1_lotsInIt_17 : decode cX1_lotsInIt 17 = .ok (.astore_n 3, 1) := dk_78 (dk_at dksX1_lotsInIt_0 17 rfl rfl)
theorem dX1_lotsInIt_18 : decode cX1_lotsInIt 18 = .ok (.aload_n 3, 1) := dk_45 (dk_at dksX1_lotsInIt_0 18 rfl rfl)
theorem dX1_lotsInIt_19 : decode cX1_lotsInIt 19 = .ok (.invokeinterface 159 1, 5) := by decide +kernel
theorem dX1_lotsInIt_24 : decode cX1_lotsInIt 24 = .ok (.ifCond .eq 26, 3) := dk_153 0 26 (dk_at dksX1_lotsInIt_1 0 rfl rfl)
theorem dX1_lotsInIt_27 : decode cX1_lotsInIt 27 = .ok (.aload_n 3, 1) := dk_45 (dk_at dksX1_lotsInIt_1 3 rfl rfl)
theorem dX1_lotsInIt_28 : decode cX1_lotsInIt 28 = .ok (.invokeinterface 165 1, 5) := by decide +kernel
theorem dX1_lotsInIt_33 : decode cX1_lotsInIt 33 = .ok (.checkcast 169, 3) := dk_192 0 169 (dk_at dksX1_lotsInIt_1 9 rfl rfl)
theorem dX1_lotsInIt_36 : decode cX1_lotsInIt 36 = .ok (.astore 4, 2) := dk_58 4 (dk_at dksX1_lotsInIt_1 12 rfl rfl)
theorem dX1_lotsInIt_38 : decode cX1_lotsInIt 38 = .ok (.aload 4, 2) := dk_25 4 (dk_at dksX1_lotsInIt_1 14 rfl rfl)
theorem dX1_lotsInIt_40 : decode cX1_lotsInIt 40 = .ok (.getfield 171, 3) := dk_180 0 171 (dk_at dksX1_lotsInIt_1 16 rfl rfl)
theorem dX1_lotsInIt_43 : decode cX1_lotsInIt 43 = .ok (.aload_n 2, 1) := dk_44 (dk_at dksX1_lotsInIt_1 19 rfl rfl)
theorem dX1_lotsInIt_44 : decode cX1_lotsInIt 44 = .ok (.invokestatic 436, 3) := dk_184 1 180 (dk_at dksX1_lotsInIt_1 20 rfl rfl)
theorem dX1_lotsInIt_47 : decode cX1_lotsInIt 47 = .ok (.goto (-29), 3) := dk_167 255 227 (dk_at dksX1_lotsInIt_2 0 rfl rfl)
theorem dX1_lotsInIt_50 : decode cX1_lotsInIt 50 = .ok (.iconst 0, 1) := dk_3 (dk_at dksX1_lotsInIt_2 3 rfl rfl)
theorem dX1_lotsInIt_51 : decode cX1_lotsInIt 51 = .ok (.istore_n 3, 1) := dk_62 (dk_at dksX1_lotsInIt_2 4 rfl rfl)
theorem dX1_lotsInIt_52 : decode cX1_lotsInIt 52 = .ok (.aload_n 2, 1) := dk_44 (dk_at dksX1_lotsInIt_2 5 rfl rfl)
theorem dX1_lotsInIt_53 : decode cX1_lotsInIt 53 = .ok (.astore 4, 2) := dk_58 4 (dk_at dksX1_lotsInIt_2 6 rfl rfl)
theorem dX1_lotsInIt_55 : decode cX1_lotsInIt 55 = .ok (.aload 4, 2) := dk_25 4 (dk_at dksX1_lotsInIt_2 8 rfl rfl)
theorem dX1_lotsInIt_57 : decode cX1_lotsInIt 57 = .ok (.arraylength, 1) := dk_190 (dk_at dksX1_lotsInIt_2 10 rfl rfl)
theorem dX1_lotsInIt_58 : decode cX1_lotsInIt 58 = .ok (.istore 5, 2) := dk_54 5 (dk_at dksX1_lotsInIt_2 11 rfl rfl)
theorem dX1_lotsInIt_60 : decode cX1_lotsInIt 60 = .ok (.iconst 0, 1) := dk_3 (dk_at dksX1_lotsInIt_2 13 rfl rfl)
theorem dX1_lotsInIt_61 : decode cX1_lotsInIt 61 = .ok (.istore 6, 2) := dk_54 6 (dk_at dksX1_lotsInIt_2 14 rfl rfl)
theorem dX1_lotsInIt_63 : decode cX1_lotsInIt 63 = .ok (.iload 6, 2) := dk_21 6 (dk_at dksX1_lotsInIt_2 16 rfl rfl)
theorem dX1_lotsInIt_65 : decode cX1_lotsInIt 65 = .ok (.iload 5, 2) := dk_21 5 (dk_at dksX1_lotsInIt_2 18 rfl rfl)
theorem dX1_lotsInIt_67 : decode cX1_lotsInIt 67 = .ok (.if_icmp .ge 29, 3) := dk_162 0 29 (dk_at dksX1_lotsInIt_2 20 rfl rfl)
theorem dX1_lotsInIt_70 : decode cX1_lotsInIt 70 = .ok (.aload 4, 2) := dk_25 4 (dk_at dksX1_lotsInIt_3 0 rfl rfl)
theorem dX1_lotsInIt_72 : decode cX1_lotsInIt 72 = .ok (.iload 6, 2) := dk_21 6 (dk_at dksX1_lotsInIt_3 2 rfl rfl)
theorem dX1_lotsInIt_74 : decode cX1_lotsInIt 74 = .ok (.baload, 1) := dk_51 (dk_at dksX1_lotsInIt_3 4 rfl rfl)
theorem dX1_lotsInIt_75 : decode cX1_lotsInIt 75 = .ok (.istore 7, 2) := dk_54 7 (dk_at dksX1_lotsInIt_3 5 rfl rfl)
theorem dX1_lotsInIt_77 : decode cX1_lotsInIt 77 = .ok (.iload_n 3, 1) := dk_29 (dk_at dksX1_lotsInIt_3 7 rfl rfl)
theorem dX1_lotsInIt_78 : decode cX1_lotsInIt 78 = .ok (.iload 7, 2) := dk_21 7 (dk_at dksX1_lotsInIt_3 8 rfl rfl)
theorem dX1_lotsInIt_80 : decode cX1_lotsInIt 80 = .ok (.ifCond .eq 7, 3) := dk_153 0 7 (dk_at dksX1_lotsInIt_3 10 rfl rfl)
theorem dX1_lotsInIt_83 : decode cX1_lotsInIt 83 = .ok (.iconst 1, 1) := dk_4 (dk_at dksX1_lotsInIt_3 13 rfl rfl)
theorem dX1_lotsInIt_84 : decode cX1_lotsInIt 84 = .ok (.goto 4, 3) := dk_167 0 4 (dk_at dksX1_lotsInIt_3 14 rfl rfl)
theorem dX1_lotsInIt_87 : decode cX1_lotsInIt 87 = .ok (.iconst 0, 1) := dk_3 (dk_at dksX1_lotsInIt_3 17 rfl rfl)
theorem dX1_lotsInIt_88 : decode cX1_lotsInIt 88 = .ok (.iadd, 1) := dk_96 (dk_at dksX1_lotsInIt_3 18 rfl rfl)
theorem dX1_lotsInIt_89 : decode cX1_lotsInIt 89 = .ok (.istore_n 3, 1) := dk_62 (dk_at dksX1_lotsInIt_3 19 rfl rfl)
theorem dX1_lotsInIt_90 : decode cX1_lotsInIt 90 = .ok (.iinc 6 1, 3) := dk_132 6 1 (dk_at dksX1_lotsInIt_3 20 rfl rfl)
theorem dX1_lotsInIt_93 : decode cX1_lotsInIt 93 = .ok (.goto (-30), 3) := dk_167 255 226 (dk_at dksX1_lotsInIt_4 0 rfl rfl)
theorem dX1_lotsInIt_96 : decode cX1_lotsInIt 96 = .ok (.iload_n 3, 1) := dk_29 (dk_at dksX1_lotsInIt_4 3 rfl rfl)
theorem dX1_lotsInIt_97 : decode cX1_lotsInIt 97 = .ok (.ireturn, 1) := dk_172 (dk_at dksX1_lotsInIt_4 4 rfl rfl)
abbrev cX1_reach : ByteArray := prog_1_method_55_code
def yX1_reach : MethodName := ⟨RX1, "reach", "(LFoundrymark$Lot;[Z)V"⟩
def dkwX1_reach_2 : List UInt8 := [184, 1, 180, 167, 255, 229, 177]
abbrev dktX1_reach_2 : List UInt8 := dkwX1_reach_2 ++ []
def dkwX1_reach_1 : List UInt8 := [44, 185, 0, 159, 1, 0, 153, 0, 24, 44, 185, 0, 165, 1, 0, 192, 0, 169, 78, 45, 180, 0, 171, 43]
abbrev dktX1_reach_1 : List UInt8 := dkwX1_reach_1 ++ dktX1_reach_2
def dkwX1_reach_0 : List UInt8 := [43, 42, 180, 0, 137, 51, 154, 0, 48, 43, 42, 180, 0, 137, 4, 84, 42, 180, 1, 177, 182, 0, 155, 77]
abbrev dktX1_reach_0 : List UInt8 := dkwX1_reach_0 ++ dktX1_reach_1
theorem dksX1_reach_0 : cX1_reach.data.toList.drop 0 = dktX1_reach_0 := by decide +kernel
theorem dksX1_reach_1 : cX1_reach.data.toList.drop 24 = dktX1_reach_1 := dk_seg dksX1_reach_0 24 rfl rfl
theorem dksX1_reach_2 : cX1_reach.data.toList.drop 48 = dktX1_reach_2 := dk_seg dksX1_reach_1 24 rfl rfl
theorem dX1_reach_0 : decode cX1_reach 0 = .ok (.aload_n 1, 1) := dk_43 (dk_at dksX1_reach_0 0 rfl rfl)
theorem dX1_reach_1 : decode cX1_reach 1 = .ok (.aload_n 0, 1) := dk_42 (dk_at dksX1_reach_0 1 rfl rfl)
theorem dX1_reach_2 : decode cX1_reach 2 = .ok (.getfield 137, 3) := dk_180 0 137 (dk_at dksX1_reach_0 2 rfl rfl)
theorem dX1_reach_5 : decode cX1_reach 5 = .ok (.baload, 1) := dk_51 (dk_at dksX1_reach_0 5 rfl rfl)
theorem dX1_reach_6 : decode cX1_reach 6 = .ok (.ifCond .ne 48, 3) := dk_154 0 48 (dk_at dksX1_reach_0 6 rfl rfl)
theorem dX1_reach_9 : decode cX1_reach 9 = .ok (.aload_n 1, 1) := dk_43 (dk_at dksX1_reach_0 9 rfl rfl)
theorem dX1_reach_10 : decode cX1_reach 10 = .ok (.aload_n 0, 1) := dk_42 (dk_at dksX1_reach_0 10 rfl rfl)
theorem dX1_reach_11 : decode cX1_reach 11 = .ok (.getfield 137, 3) := dk_180 0 137 (dk_at dksX1_reach_0 11 rfl rfl)
theorem dX1_reach_14 : decode cX1_reach 14 = .ok (.iconst 1, 1) := dk_4 (dk_at dksX1_reach_0 14 rfl rfl)
theorem dX1_reach_15 : decode cX1_reach 15 = .ok (.bastore, 1) := dk_84 (dk_at dksX1_reach_0 15 rfl rfl)
theorem dX1_reach_16 : decode cX1_reach 16 = .ok (.aload_n 0, 1) := dk_42 (dk_at dksX1_reach_0 16 rfl rfl)
theorem dX1_reach_17 : decode cX1_reach 17 = .ok (.getfield 433, 3) := dk_180 1 177 (dk_at dksX1_reach_0 17 rfl rfl)
theorem dX1_reach_20 : decode cX1_reach 20 = .ok (.invokevirtual 155, 3) := dk_182 0 155 (dk_at dksX1_reach_0 20 rfl rfl)
theorem dX1_reach_23 : decode cX1_reach 23 = .ok (.astore_n 2, 1) := dk_77 (dk_at dksX1_reach_0 23 rfl rfl)
theorem dX1_reach_24 : decode cX1_reach 24 = .ok (.aload_n 2, 1) := dk_44 (dk_at dksX1_reach_1 0 rfl rfl)
theorem dX1_reach_25 : decode cX1_reach 25 = .ok (.invokeinterface 159 1, 5) := by decide +kernel
theorem dX1_reach_30 : decode cX1_reach 30 = .ok (.ifCond .eq 24, 3) := dk_153 0 24 (dk_at dksX1_reach_1 6 rfl rfl)
theorem dX1_reach_33 : decode cX1_reach 33 = .ok (.aload_n 2, 1) := dk_44 (dk_at dksX1_reach_1 9 rfl rfl)
theorem dX1_reach_34 : decode cX1_reach 34 = .ok (.invokeinterface 165 1, 5) := by decide +kernel
theorem dX1_reach_39 : decode cX1_reach 39 = .ok (.checkcast 169, 3) := dk_192 0 169 (dk_at dksX1_reach_1 15 rfl rfl)
theorem dX1_reach_42 : decode cX1_reach 42 = .ok (.astore_n 3, 1) := dk_78 (dk_at dksX1_reach_1 18 rfl rfl)
theorem dX1_reach_43 : decode cX1_reach 43 = .ok (.aload_n 3, 1) := dk_45 (dk_at dksX1_reach_1 19 rfl rfl)
theorem dX1_reach_44 : decode cX1_reach 44 = .ok (.getfield 171, 3) := dk_180 0 171 (dk_at dksX1_reach_1 20 rfl rfl)
theorem dX1_reach_47 : decode cX1_reach 47 = .ok (.aload_n 1, 1) := dk_43 (dk_at dksX1_reach_1 23 rfl rfl)
theorem dX1_reach_48 : decode cX1_reach 48 = .ok (.invokestatic 436, 3) := dk_184 1 180 (dk_at dksX1_reach_2 0 rfl rfl)
theorem dX1_reach_51 : decode cX1_reach 51 = .ok (.goto (-27), 3) := dk_167 255 229 (dk_at dksX1_reach_2 3 rfl rfl)
theorem dX1_reach_54 : decode cX1_reach 54 = .ok (.return_, 1) := dk_177 (dk_at dksX1_reach_2 6 rfl rfl)
abbrev cX1_touched : ByteArray := prog_1_method_54_code
def yX1_touched : MethodName := ⟨RX1, "touched", "(I)I"⟩
def dkwX1_touched_2 : List UInt8 := [153, 0, 7, 4, 167, 0, 4, 3, 96, 62, 167, 255, 217, 29, 172]
abbrev dktX1_touched_2 : List UInt8 := dkwX1_touched_2 ++ []
def dkwX1_touched_1 : List UInt8 := [153, 0, 35, 25, 4, 185, 0, 165, 1, 0, 192, 0, 151, 58, 5, 29, 44, 25, 5, 184, 1, 173]
abbrev dktX1_touched_1 : List UInt8 := dkwX1_touched_1 ++ dktX1_touched_2
def dkwX1_touched_0 : List UInt8 := [42, 27, 182, 0, 203, 77, 3, 62, 42, 180, 0, 37, 182, 0, 155, 58, 4, 25, 4, 185, 0, 159, 1, 0]
abbrev dktX1_touched_0 : List UInt8 := dkwX1_touched_0 ++ dktX1_touched_1
theorem dksX1_touched_0 : cX1_touched.data.toList.drop 0 = dktX1_touched_0 := by decide +kernel
theorem dksX1_touched_1 : cX1_touched.data.toList.drop 24 = dktX1_touched_1 := dk_seg dksX1_touched_0 24 rfl rfl
theorem dksX1_touched_2 : cX1_touched.data.toList.drop 46 = dktX1_touched_2 := dk_seg dksX1_touched_1 22 rfl rfl
theorem dX1_touched_0 : decode cX1_touched 0 = .ok (.aload_n 0, 1) := dk_42 (dk_at dksX1_touched_0 0 rfl rfl)
theorem dX1_touched_1 : decode cX1_touched 1 = .ok (.iload_n 1, 1) := dk_27 (dk_at dksX1_touched_0 1 rfl rfl)
theorem dX1_touched_2 : decode cX1_touched 2 = .ok (.invokevirtual 203, 3) := dk_182 0 203 (dk_at dksX1_touched_0 2 rfl rfl)
theorem dX1_touched_5 : decode cX1_touched 5 = .ok (.astore_n 2, 1) := dk_77 (dk_at dksX1_touched_0 5 rfl rfl)
theorem dX1_touched_6 : decode cX1_touched 6 = .ok (.iconst 0, 1) := dk_3 (dk_at dksX1_touched_0 6 rfl rfl)
theorem dX1_touched_7 : decode cX1_touched 7 = .ok (.istore_n 3, 1) := dk_62 (dk_at dksX1_touched_0 7 rfl rfl)
theorem dX1_touched_8 : decode cX1_touched 8 = .ok (.aload_n 0, 1) := dk_42 (dk_at dksX1_touched_0 8 rfl rfl)
theorem dX1_touched_9 : decode cX1_touched 9 = .ok (.getfield 37, 3) := dk_180 0 37 (dk_at dksX1_touched_0 9 rfl rfl)
theorem dX1_touched_12 : decode cX1_touched 12 = .ok (.invokevirtual 155, 3) := dk_182 0 155 (dk_at dksX1_touched_0 12 rfl rfl)
theorem dX1_touched_15 : decode cX1_touched 15 = .ok (.astore 4, 2) := dk_58 4 (dk_at dksX1_touched_0 15 rfl rfl)
theorem dX1_touched_17 : decode cX1_touched 17 = .ok (.aload 4, 2) := dk_25 4 (dk_at dksX1_touched_0 17 rfl rfl)
theorem dX1_touched_19 : decode cX1_touched 19 = .ok (.invokeinterface 159 1, 5) := by decide +kernel
theorem dX1_touched_24 : decode cX1_touched 24 = .ok (.ifCond .eq 35, 3) := dk_153 0 35 (dk_at dksX1_touched_1 0 rfl rfl)
theorem dX1_touched_27 : decode cX1_touched 27 = .ok (.aload 4, 2) := dk_25 4 (dk_at dksX1_touched_1 3 rfl rfl)
theorem dX1_touched_29 : decode cX1_touched 29 = .ok (.invokeinterface 165 1, 5) := by decide +kernel
theorem dX1_touched_34 : decode cX1_touched 34 = .ok (.checkcast 151, 3) := dk_192 0 151 (dk_at dksX1_touched_1 10 rfl rfl)
theorem dX1_touched_37 : decode cX1_touched 37 = .ok (.astore 5, 2) := dk_58 5 (dk_at dksX1_touched_1 13 rfl rfl)
theorem dX1_touched_39 : decode cX1_touched 39 = .ok (.iload_n 3, 1) := dk_29 (dk_at dksX1_touched_1 15 rfl rfl)
theorem dX1_touched_40 : decode cX1_touched 40 = .ok (.aload_n 2, 1) := dk_44 (dk_at dksX1_touched_1 16 rfl rfl)
theorem dX1_touched_41 : decode cX1_touched 41 = .ok (.aload 5, 2) := dk_25 5 (dk_at dksX1_touched_1 17 rfl rfl)
theorem dX1_touched_43 : decode cX1_touched 43 = .ok (.invokestatic 429, 3) := dk_184 1 173 (dk_at dksX1_touched_1 19 rfl rfl)
theorem dX1_touched_46 : decode cX1_touched 46 = .ok (.ifCond .eq 7, 3) := dk_153 0 7 (dk_at dksX1_touched_2 0 rfl rfl)
theorem dX1_touched_49 : decode cX1_touched 49 = .ok (.iconst 1, 1) := dk_4 (dk_at dksX1_touched_2 3 rfl rfl)
theorem dX1_touched_50 : decode cX1_touched 50 = .ok (.goto 4, 3) := dk_167 0 4 (dk_at dksX1_touched_2 4 rfl rfl)
theorem dX1_touched_53 : decode cX1_touched 53 = .ok (.iconst 0, 1) := dk_3 (dk_at dksX1_touched_2 7 rfl rfl)
theorem dX1_touched_54 : decode cX1_touched 54 = .ok (.iadd, 1) := dk_96 (dk_at dksX1_touched_2 8 rfl rfl)
theorem dX1_touched_55 : decode cX1_touched 55 = .ok (.istore_n 3, 1) := dk_62 (dk_at dksX1_touched_2 9 rfl rfl)
theorem dX1_touched_56 : decode cX1_touched 56 = .ok (.goto (-39), 3) := dk_167 255 217 (dk_at dksX1_touched_2 10 rfl rfl)
theorem dX1_touched_59 : decode cX1_touched 59 = .ok (.iload_n 3, 1) := dk_29 (dk_at dksX1_touched_2 13 rfl rfl)
theorem dX1_touched_60 : decode cX1_touched 60 = .ok (.ireturn, 1) := dk_172 (dk_at dksX1_touched_2 14 rfl rfl)
abbrev cX1_lot : ByteArray := prog_1_method_14_code
def yX1_lot : MethodName := ⟨RX1, "lot", "(I)LFoundrymark$Lot;"⟩
def dkwX1_lot_1 : List UInt8 := [182, 0, 82, 192, 0, 113, 176]
abbrev dktX1_lot_1 : List UInt8 := dkwX1_lot_1 ++ []
def dkwX1_lot_0 : List UInt8 := [27, 3, 42, 180, 0, 34, 182, 0, 55, 4, 100, 184, 0, 47, 184, 0, 79, 42, 180, 0, 34, 27]
abbrev dktX1_lot_0 : List UInt8 := dkwX1_lot_0 ++ dktX1_lot_1
theorem dksX1_lot_0 : cX1_lot.data.toList.drop 0 = dktX1_lot_0 := by decide +kernel
theorem dksX1_lot_1 : cX1_lot.data.toList.drop 22 = dktX1_lot_1 := dk_seg dksX1_lot_0 22 rfl rfl
theorem dX1_lot_0 : decode cX1_lot 0 = .ok (.iload_n 1, 1) := dk_27 (dk_at dksX1_lot_0 0 rfl rfl)
theorem dX1_lot_1 : decode cX1_lot 1 = .ok (.iconst 0, 1) := dk_3 (dk_at dksX1_lot_0 1 rfl rfl)
theorem dX1_lot_2 : decode cX1_lot 2 = .ok (.aload_n 0, 1) := dk_42 (dk_at dksX1_lot_0 2 rfl rfl)
theorem dX1_lot_3 : decode cX1_lot 3 = .ok (.getfield 34, 3) := dk_180 0 34 (dk_at dksX1_lot_0 3 rfl rfl)
theorem dX1_lot_6 : decode cX1_lot 6 = .ok (.invokevirtual 55, 3) := dk_182 0 55 (dk_at dksX1_lot_0 6 rfl rfl)
theorem dX1_lot_9 : decode cX1_lot 9 = .ok (.iconst 1, 1) := dk_4 (dk_at dksX1_lot_0 9 rfl rfl)
theorem dX1_lot_10 : decode cX1_lot 10 = .ok (.isub, 1) := dk_100 (dk_at dksX1_lot_0 10 rfl rfl)
theorem dX1_lot_11 : decode cX1_lot 11 = .ok (.invokestatic 47, 3) := dk_184 0 47 (dk_at dksX1_lot_0 11 rfl rfl)
theorem dX1_lot_14 : decode cX1_lot 14 = .ok (.invokestatic 79, 3) := dk_184 0 79 (dk_at dksX1_lot_0 14 rfl rfl)
theorem dX1_lot_17 : decode cX1_lot 17 = .ok (.aload_n 0, 1) := dk_42 (dk_at dksX1_lot_0 17 rfl rfl)
theorem dX1_lot_18 : decode cX1_lot 18 = .ok (.getfield 34, 3) := dk_180 0 34 (dk_at dksX1_lot_0 18 rfl rfl)
theorem dX1_lot_21 : decode cX1_lot 21 = .ok (.iload_n 1, 1) := dk_27 (dk_at dksX1_lot_0 21 rfl rfl)
theorem dX1_lot_22 : decode cX1_lot 22 = .ok (.invokevirtual 82, 3) := dk_182 0 82 (dk_at dksX1_lot_1 0 rfl rfl)
theorem dX1_lot_25 : decode cX1_lot 25 = .ok (.checkcast 113, 3) := dk_192 0 113 (dk_at dksX1_lot_1 3 rfl rfl)
theorem dX1_lot_28 : decode cX1_lot 28 = .ok (.areturn, 1) := dk_176 (dk_at dksX1_lot_1 6 rfl rfl)
abbrev cX1_isBetween : ByteArray := prog_1_method_1_code
def yX1_isBetween : MethodName := ⟨RX1, "isBetween", "(III)Z"⟩
def dkwX1_isBetween_0 : List UInt8 := [26, 27, 161, 0, 12, 26, 28, 163, 0, 7, 4, 167, 0, 4, 3, 172]
abbrev dktX1_isBetween_0 : List UInt8 := dkwX1_isBetween_0 ++ []
theorem dksX1_isBetween_0 : cX1_isBetween.data.toList.drop 0 = dktX1_isBetween_0 := by decide +kernel
theorem dX1_isBetween_0 : decode cX1_isBetween 0 = .ok (.iload_n 0, 1) := dk_26 (dk_at dksX1_isBetween_0 0 rfl rfl)
theorem dX1_isBetween_1 : decode cX1_isBetween 1 = .ok (.iload_n 1, 1) := dk_27 (dk_at dksX1_isBetween_0 1 rfl rfl)
theorem dX1_isBetween_2 : decode cX1_isBetween 2 = .ok (.if_icmp .lt 12, 3) := dk_161 0 12 (dk_at dksX1_isBetween_0 2 rfl rfl)
theorem dX1_isBetween_5 : decode cX1_isBetween 5 = .ok (.iload_n 0, 1) := dk_26 (dk_at dksX1_isBetween_0 5 rfl rfl)
theorem dX1_isBetween_6 : decode cX1_isBetween 6 = .ok (.iload_n 2, 1) := dk_28 (dk_at dksX1_isBetween_0 6 rfl rfl)
theorem dX1_isBetween_7 : decode cX1_isBetween 7 = .ok (.if_icmp .gt 7, 3) := dk_163 0 7 (dk_at dksX1_isBetween_0 7 rfl rfl)
theorem dX1_isBetween_10 : decode cX1_isBetween 10 = .ok (.iconst 1, 1) := dk_4 (dk_at dksX1_isBetween_0 10 rfl rfl)
theorem dX1_isBetween_11 : decode cX1_isBetween 11 = .ok (.goto 4, 3) := dk_167 0 4 (dk_at dksX1_isBetween_0 11 rfl rfl)
theorem dX1_isBetween_14 : decode cX1_isBetween 14 = .ok (.iconst 0, 1) := dk_3 (dk_at dksX1_isBetween_0 14 rfl rfl)
theorem dX1_isBetween_15 : decode cX1_isBetween 15 = .ok (.ireturn, 1) := dk_172 (dk_at dksX1_isBetween_0 15 rfl rfl)
abbrev cX1_requireIndex : ByteArray := prog_1_method_2_code
def yX1_requireIndex : MethodName := ⟨RX1, "requireIndex", "(Z)V"⟩
def dkwX1_requireIndex_0 : List UInt8 := [26, 154, 0, 11, 187, 0, 1, 89, 183, 0, 3, 191, 177]
abbrev dktX1_requireIndex_0 : List UInt8 := dkwX1_requireIndex_0 ++ []
theorem dksX1_requireIndex_0 : cX1_requireIndex.data.toList.drop 0 = dktX1_requireIndex_0 := by decide +kernel
theorem dX1_requireIndex_0 : decode cX1_requireIndex 0 = .ok (.iload_n 0, 1) := dk_26 (dk_at dksX1_requireIndex_0 0 rfl rfl)
theorem dX1_requireIndex_1 : decode cX1_requireIndex 1 = .ok (.ifCond .ne 11, 3) := dk_154 0 11 (dk_at dksX1_requireIndex_0 1 rfl rfl)
theorem dX1_requireIndex_4 : decode cX1_requireIndex 4 = .ok (.new 1, 3) := dk_187 0 1 (dk_at dksX1_requireIndex_0 4 rfl rfl)
theorem dX1_requireIndex_7 : decode cX1_requireIndex 7 = .ok (.dup, 1) := dk_89 (dk_at dksX1_requireIndex_0 7 rfl rfl)
theorem dX1_requireIndex_8 : decode cX1_requireIndex 8 = .ok (.invokespecial 3, 3) := dk_183 0 3 (dk_at dksX1_requireIndex_0 8 rfl rfl)
theorem dX1_requireIndex_11 : decode cX1_requireIndex 11 = .ok (.athrow, 1) := dk_191 (dk_at dksX1_requireIndex_0 11 rfl rfl)
theorem dX1_requireIndex_12 : decode cX1_requireIndex 12 = .ok (.return_, 1) := dk_177 (dk_at dksX1_requireIndex_0 12 rfl rfl)
abbrev cX1_isIn : ByteArray := prog_1_method_53_code
def yX1_isIn : MethodName := ⟨RX1, "isIn", "(LFoundrymark$Lot;LFoundrymark$Order;)Z"⟩
def dkwX1_isIn_2 : List UInt8 := [25, 4, 180, 0, 171, 42, 182, 1, 169, 153, 0, 7, 4, 167, 0, 4, 3, 61, 167, 255, 205, 28, 172]
abbrev dktX1_isIn_2 : List UInt8 := dkwX1_isIn_2 ++ []
def dkwX1_isIn_1 : List UInt8 := [185, 0, 165, 1, 0, 192, 0, 169, 58, 4, 28, 154, 0, 24, 25, 4, 180, 0, 171, 42, 165, 0, 15]
abbrev dktX1_isIn_1 : List UInt8 := dkwX1_isIn_1 ++ dktX1_isIn_2
def dkwX1_isIn_0 : List UInt8 := [3, 61, 43, 180, 1, 151, 182, 0, 155, 78, 45, 185, 0, 159, 1, 0, 153, 0, 48, 45]
abbrev dktX1_isIn_0 : List UInt8 := dkwX1_isIn_0 ++ dktX1_isIn_1
theorem dksX1_isIn_0 : cX1_isIn.data.toList.drop 0 = dktX1_isIn_0 := by decide +kernel
theorem dksX1_isIn_1 : cX1_isIn.data.toList.drop 20 = dktX1_isIn_1 := dk_seg dksX1_isIn_0 20 rfl rfl
theorem dksX1_isIn_2 : cX1_isIn.data.toList.drop 43 = dktX1_isIn_2 := dk_seg dksX1_isIn_1 23 rfl rfl
theorem dX1_isIn_0 : decode cX1_isIn 0 = .ok (.iconst 0, 1) := dk_3 (dk_at dksX1_isIn_0 0 rfl rfl)
theorem dX1_isIn_1 : decode cX1_isIn 1 = .ok (.istore_n 2, 1) := dk_61 (dk_at dksX1_isIn_0 1 rfl rfl)
theorem dX1_isIn_2 : decode cX1_isIn 2 = .ok (.aload_n 1, 1) := dk_43 (dk_at dksX1_isIn_0 2 rfl rfl)
theorem dX1_isIn_3 : decode cX1_isIn 3 = .ok (.getfield 407, 3) := dk_180 1 151 (dk_at dksX1_isIn_0 3 rfl rfl)
theorem dX1_isIn_6 : decode cX1_isIn 6 = .ok (.invokevirtual 155, 3) := dk_182 0 155 (dk_at dksX1_isIn_0 6 rfl rfl)
theorem dX1_isIn_9 : decode cX1_isIn 9 = .ok (.astore_n 3, 1) := dk_78 (dk_at dksX1_isIn_0 9 rfl rfl)
theorem dX1_isIn_10 : decode cX1_isIn 10 = .ok (.aload_n 3, 1) := dk_45 (dk_at dksX1_isIn_0 10 rfl rfl)
theorem dX1_isIn_11 : decode cX1_isIn 11 = .ok (.invokeinterface 159 1, 5) := by decide +kernel
theorem dX1_isIn_16 : decode cX1_isIn 16 = .ok (.ifCond .eq 48, 3) := dk_153 0 48 (dk_at dksX1_isIn_0 16 rfl rfl)
theorem dX1_isIn_19 : decode cX1_isIn 19 = .ok (.aload_n 3, 1) := dk_45 (dk_at dksX1_isIn_0 19 rfl rfl)
theorem dX1_isIn_20 : decode cX1_isIn 20 = .ok (.invokeinterface 165 1, 5) := by decide +kernel
theorem dX1_isIn_25 : decode cX1_isIn 25 = .ok (.checkcast 169, 3) := dk_192 0 169 (dk_at dksX1_isIn_1 5 rfl rfl)
theorem dX1_isIn_28 : decode cX1_isIn 28 = .ok (.astore 4, 2) := dk_58 4 (dk_at dksX1_isIn_1 8 rfl rfl)
theorem dX1_isIn_30 : decode cX1_isIn 30 = .ok (.iload_n 2, 1) := dk_28 (dk_at dksX1_isIn_1 10 rfl rfl)
theorem dX1_isIn_31 : decode cX1_isIn 31 = .ok (.ifCond .ne 24, 3) := dk_154 0 24 (dk_at dksX1_isIn_1 11 rfl rfl)
theorem dX1_isIn_34 : decode cX1_isIn 34 = .ok (.aload 4, 2) := dk_25 4 (dk_at dksX1_isIn_1 14 rfl rfl)
theorem dX1_isIn_36 : decode cX1_isIn 36 = .ok (.getfield 171, 3) := dk_180 0 171 (dk_at dksX1_isIn_1 16 rfl rfl)
theorem dX1_isIn_39 : decode cX1_isIn 39 = .ok (.aload_n 0, 1) := dk_42 (dk_at dksX1_isIn_1 19 rfl rfl)
theorem dX1_isIn_40 : decode cX1_isIn 40 = .ok (.if_acmp .eq 15, 3) := dk_165 0 15 (dk_at dksX1_isIn_1 20 rfl rfl)
theorem dX1_isIn_43 : decode cX1_isIn 43 = .ok (.aload 4, 2) := dk_25 4 (dk_at dksX1_isIn_2 0 rfl rfl)
theorem dX1_isIn_45 : decode cX1_isIn 45 = .ok (.getfield 171, 3) := dk_180 0 171 (dk_at dksX1_isIn_2 2 rfl rfl)
theorem dX1_isIn_48 : decode cX1_isIn 48 = .ok (.aload_n 0, 1) := dk_42 (dk_at dksX1_isIn_2 5 rfl rfl)
theorem dX1_isIn_49 : decode cX1_isIn 49 = .ok (.invokevirtual 425, 3) := dk_182 1 169 (dk_at dksX1_isIn_2 6 rfl rfl)
theorem dX1_isIn_52 : decode cX1_isIn 52 = .ok (.ifCond .eq 7, 3) := dk_153 0 7 (dk_at dksX1_isIn_2 9 rfl rfl)
theorem dX1_isIn_55 : decode cX1_isIn 55 = .ok (.iconst 1, 1) := dk_4 (dk_at dksX1_isIn_2 12 rfl rfl)
theorem dX1_isIn_56 : decode cX1_isIn 56 = .ok (.goto 4, 3) := dk_167 0 4 (dk_at dksX1_isIn_2 13 rfl rfl)
theorem dX1_isIn_59 : decode cX1_isIn 59 = .ok (.iconst 0, 1) := dk_3 (dk_at dksX1_isIn_2 16 rfl rfl)
theorem dX1_isIn_60 : decode cX1_isIn 60 = .ok (.istore_n 2, 1) := dk_61 (dk_at dksX1_isIn_2 17 rfl rfl)
theorem dX1_isIn_61 : decode cX1_isIn 61 = .ok (.goto (-51), 3) := dk_167 255 205 (dk_at dksX1_isIn_2 18 rfl rfl)
theorem dX1_isIn_64 : decode cX1_isIn 64 = .ok (.iload_n 2, 1) := dk_28 (dk_at dksX1_isIn_2 21 rfl rfl)
theorem dX1_isIn_65 : decode cX1_isIn 65 = .ok (.ireturn, 1) := dk_172 (dk_at dksX1_isIn_2 22 rfl rfl)
abbrev cX1_arePiecesRight : ByteArray := prog_1_method_62_code
def yX1_arePiecesRight : MethodName := ⟨RX1, "arePiecesRight", "()Z"⟩
def dkwX1_arePiecesRight_10 : List UInt8 := [182, 0, 193, 154, 0, 7, 4, 167, 0, 4, 3, 61, 167, 255, 176, 28, 172]
abbrev dktX1_arePiecesRight_10 : List UInt8 := dkwX1_arePiecesRight_10 ++ []
def dkwX1_arePiecesRight_9 : List UInt8 := [25, 4, 180, 0, 175, 25, 4, 180, 0, 231, 163, 0, 23, 25, 4, 180, 0, 175, 158, 0, 11, 25, 4]
abbrev dktX1_arePiecesRight_9 : List UInt8 := dkwX1_arePiecesRight_9 ++ dktX1_arePiecesRight_10
def dkwX1_arePiecesRight_8 : List UInt8 := [153, 0, 57, 25, 4, 180, 1, 199, 25, 4, 180, 0, 231, 43, 25, 4, 180, 0, 137, 46, 96, 160, 0, 36]
abbrev dktX1_arePiecesRight_8 : List UInt8 := dkwX1_arePiecesRight_8 ++ dktX1_arePiecesRight_9
def dkwX1_arePiecesRight_7 : List UInt8 := [78, 45, 185, 0, 159, 1, 0, 153, 0, 77, 45, 185, 0, 165, 1, 0, 192, 0, 113, 58, 4, 28]
abbrev dktX1_arePiecesRight_7 : List UInt8 := dkwX1_arePiecesRight_7 ++ dktX1_arePiecesRight_8
def dkwX1_arePiecesRight_6 : List UInt8 := [92, 46, 25, 5, 180, 0, 178, 96, 79, 167, 255, 216, 167, 255, 119, 4, 61, 42, 180, 0, 34, 182, 0, 155]
abbrev dktX1_arePiecesRight_6 : List UInt8 := dkwX1_arePiecesRight_6 ++ dktX1_arePiecesRight_7
def dkwX1_arePiecesRight_5 : List UInt8 := [153, 0, 36, 25, 4, 185, 0, 165, 1, 0, 192, 0, 169, 58, 5, 43, 25, 5, 180, 0, 171, 180, 0, 137]
abbrev dktX1_arePiecesRight_5 : List UInt8 := dkwX1_arePiecesRight_5 ++ dktX1_arePiecesRight_6
def dkwX1_arePiecesRight_4 : List UInt8 := [180, 0, 178, 96, 79, 167, 255, 202, 45, 180, 1, 151, 182, 0, 155, 58, 4, 25, 4, 185, 0, 159, 1, 0]
abbrev dktX1_arePiecesRight_4 : List UInt8 := dkwX1_arePiecesRight_4 ++ dktX1_arePiecesRight_5
def dkwX1_arePiecesRight_3 : List UInt8 := [180, 0, 171, 180, 0, 137, 92, 46, 45, 180, 0, 184, 178, 0, 188, 166, 0, 7, 3, 167, 0, 8, 25, 5]
abbrev dktX1_arePiecesRight_3 : List UInt8 := dkwX1_arePiecesRight_3 ++ dktX1_arePiecesRight_4
def dkwX1_arePiecesRight_2 : List UInt8 := [185, 0, 159, 1, 0, 153, 0, 50, 25, 4, 185, 0, 165, 1, 0, 192, 0, 169, 58, 5, 43, 25, 5]
abbrev dktX1_arePiecesRight_2 : List UInt8 := dkwX1_arePiecesRight_2 ++ dktX1_arePiecesRight_3
def dkwX1_arePiecesRight_1 : List UInt8 := [153, 0, 134, 44, 185, 0, 165, 1, 0, 192, 0, 151, 78, 45, 180, 0, 150, 182, 0, 155, 58, 4, 25, 4]
abbrev dktX1_arePiecesRight_1 : List UInt8 := dkwX1_arePiecesRight_1 ++ dktX1_arePiecesRight_2
def dkwX1_arePiecesRight_0 : List UInt8 := [42, 180, 0, 34, 182, 0, 55, 188, 10, 76, 42, 180, 0, 37, 182, 0, 155, 77, 44, 185, 0, 159, 1, 0]
abbrev dktX1_arePiecesRight_0 : List UInt8 := dkwX1_arePiecesRight_0 ++ dktX1_arePiecesRight_1
theorem dksX1_arePiecesRight_0 : cX1_arePiecesRight.data.toList.drop 0 = dktX1_arePiecesRight_0 := by decide +kernel
theorem dksX1_arePiecesRight_1 : cX1_arePiecesRight.data.toList.drop 24 = dktX1_arePiecesRight_1 := dk_seg dksX1_arePiecesRight_0 24 rfl rfl
theorem dksX1_arePiecesRight_2 : cX1_arePiecesRight.data.toList.drop 48 = dktX1_arePiecesRight_2 := dk_seg dksX1_arePiecesRight_1 24 rfl rfl
theorem dksX1_arePiecesRight_3 : cX1_arePiecesRight.data.toList.drop 71 = dktX1_arePiecesRight_3 := dk_seg dksX1_arePiecesRight_2 23 rfl rfl
theorem dksX1_arePiecesRight_4 : cX1_arePiecesRight.data.toList.drop 95 = dktX1_arePiecesRight_4 := dk_seg dksX1_arePiecesRight_3 24 rfl rfl
theorem dksX1_arePiecesRight_5 : cX1_arePiecesRight.data.toList.drop 119 = dktX1_arePiecesRight_5 := dk_seg dksX1_arePiecesRight_4 24 rfl rfl
theorem dksX1_arePiecesRight_6 : cX1_arePiecesRight.data.toList.drop 143 = dktX1_arePiecesRight_6 := dk_seg dksX1_arePiecesRight_5 24 rfl rfl
theorem dksX1_arePiecesRight_7 : cX1_arePiecesRight.data.toList.drop 167 = dktX1_arePiecesRight_7 := dk_seg dksX1_arePiecesRight_6 24 rfl rfl
theorem dksX1_arePiecesRight_8 : cX1_arePiecesRight.data.toList.drop 189 = dktX1_arePiecesRight_8 := dk_seg dksX1_arePiecesRight_7 22 rfl rfl
theorem dksX1_arePiecesRight_9 : cX1_arePiecesRight.data.toList.drop 213 = dktX1_arePiecesRight_9 := dk_seg dksX1_arePiecesRight_8 24 rfl rfl
theorem dksX1_arePiecesRight_10 : cX1_arePiecesRight.data.toList.drop 236 = dktX1_arePiecesRight_10 := dk_seg dksX1_arePiecesRight_9 23 rfl rfl
theorem dX1_arePiecesRight_0 : decode cX1_arePiecesRight 0 = .ok (.aload_n 0, 1) := dk_42 (dk_at dksX1_arePiecesRight_0 0 rfl rfl)
theorem dX1_arePiecesRight_1 : decode cX1_arePiecesRight 1 = .ok (.getfield 34, 3) := dk_180 0 34 (dk_at dksX1_arePiecesRight_0 1 rfl rfl)
theorem dX1_arePiecesRight_4 : decode cX1_arePiecesRight 4 = .ok (.invokevirtual 55, 3) := dk_182 0 55 (dk_at dksX1_arePiecesRight_0 4 rfl rfl)
theorem dX1_arePiecesRight_7 : decode cX1_arePiecesRight 7 = .ok (.newarray .int, 2) := dk_188_10 (dk_at dksX1_arePiecesRight_0 7 rfl rfl)
theorem dX1_arePiecesRight_9 : decode cX1_arePiecesRight 9 = .ok (.astore_n 1, 1) := dk_76 (dk_at dksX1_arePiecesRight_0 9 rfl rfl)
theorem dX1_arePiecesRight_10 : decode cX1_arePiecesRight 10 = .ok (.aload_n 0, 1) := dk_42 (dk_at dksX1_arePiecesRight_0 10 rfl rfl)
theorem dX1_arePiecesRight_11 : decode cX1_arePiecesRight 11 = .ok (.getfield 37, 3) := dk_180 0 37 (dk_at dksX1_arePiecesRight_0 11 rfl rfl)
theorem dX1_arePiecesRight_14 : decode cX1_arePiecesRight 14 = .ok (.invokevirtual 155, 3) := dk_182 0 155 (dk_at dksX1_arePiecesRight_0 14 rfl rfl)
theorem dX1_arePiecesRight_17 : decode cX1_arePiecesRight 17 = .ok (.astore_n 2, 1) := dk_77 (dk_at dksX1_arePiecesRight_0 17 rfl rfl)
theorem dX1_arePiecesRight_18 : decode cX1_arePiecesRight 18 = .ok (.aload_n 2, 1) := dk_44 (dk_at dksX1_arePiecesRight_0 18 rfl rfl)
theorem dX1_arePiecesRight_19 : decode cX1_arePiecesRight 19 = .ok (.invokeinterface 159 1, 5) := by decide +kernel
theorem dX1_arePiecesRight_24 : decode cX1_arePiecesRight 24 = .ok (.ifCond .eq 134, 3) := dk_153 0 134 (dk_at dksX1_arePiecesRight_1 0 rfl rfl)
theorem dX1_arePiecesRight_27 : decode cX1_arePiecesRight 27 = .ok (.aload_n 2, 1) := dk_44 (dk_at dksX1_arePiecesRight_1 3 rfl rfl)
theorem dX1_arePiecesRight_28 : decode cX1_arePiecesRight 28 = .ok (.invokeinterface 165 1, 5) := by decide +kernel
theorem dX1_arePiecesRight_33 : decode cX1_arePiecesRight 33 = .ok (.checkcast 151, 3) := dk_192 0 151 (dk_at dksX1_arePiecesRight_1 9 rfl rfl)
theorem dX1_arePiecesRight_36 : decode cX1_arePiecesRight 36 = .ok (.astore_n 3, 1) := dk_78 (dk_at dksX1_arePiecesRight_1 12 rfl rfl)
theorem dX1_arePiecesRight_37 : decode cX1_arePiecesRight 37 = .ok (.aload_n 3, 1) := dk_45 (dk_at dksX1_arePiecesRight_1 13 rfl rfl)
theorem dX1_arePiecesRight_38 : decode cX1_arePiecesRight 38 = .ok (.getfield 150, 3) := dk_180 0 150 (dk_at dksX1_arePiecesRight_1 14 rfl rfl)
theorem dX1_arePiecesRight_41 : decode cX1_arePiecesRight 41 = .ok (.invokevirtual 155, 3) := dk_182 0 155 (dk_at dksX1_arePiecesRight_1 17 rfl rfl)
theorem dX1_arePiecesRight_44 : decode cX1_arePiecesRight 44 = .ok (.astore 4, 2) := dk_58 4 (dk_at dksX1_arePiecesRight_1 20 rfl rfl)
theorem dX1_arePiecesRight_46 : decode cX1_arePiecesRight 46 = .ok (.aload 4, 2) := dk_25 4 (dk_at dksX1_arePiecesRight_1 22 rfl rfl)
theorem dX1_arePiecesRight_48 : decode cX1_arePiecesRight 48 = .ok (.invokeinterface 159 1, 5) := by decide +kernel
theorem dX1_arePiecesRight_53 : decode cX1_arePiecesRight 53 = .ok (.ifCond .eq 50, 3) := dk_153 0 50 (dk_at dksX1_arePiecesRight_2 5 rfl rfl)
theorem dX1_arePiecesRight_56 : decode cX1_arePiecesRight 56 = .ok (.aload 4, 2) := dk_25 4 (dk_at dksX1_arePiecesRight_2 8 rfl rfl)
theorem dX1_arePiecesRight_58 : decode cX1_arePiecesRight 58 = .ok (.invokeinterface 165 1, 5) := by decide +kernel
theorem dX1_arePiecesRight_63 : decode cX1_arePiecesRight 63 = .ok (.checkcast 169, 3) := dk_192 0 169 (dk_at dksX1_arePiecesRight_2 15 rfl rfl)
theorem dX1_arePiecesRight_66 : decode cX1_arePiecesRight 66 = .ok (.astore 5, 2) := dk_58 5 (dk_at dksX1_arePiecesRight_2 18 rfl rfl)
theorem dX1_arePiecesRight_68 : decode cX1_arePiecesRight 68 = .ok (.aload_n 1, 1) := dk_43 (dk_at dksX1_arePiecesRight_2 20 rfl rfl)
theorem dX1_arePiecesRight_69 : decode cX1_arePiecesRight 69 = .ok (.aload 5, 2) := dk_25 5 (dk_at dksX1_arePiecesRight_2 21 rfl rfl)
theorem dX1_arePiecesRight_71 : decode cX1_arePiecesRight 71 = .ok (.getfield 171, 3) := dk_180 0 171 (dk_at dksX1_arePiecesRight_3 0 rfl rfl)
theorem dX1_arePiecesRight_74 : decode cX1_arePiecesRight 74 = .ok (.getfield 137, 3) := dk_180 0 137 (dk_at dksX1_arePiecesRight_3 3 rfl rfl)
theorem dX1_arePiecesRight_77 : decode cX1_arePiecesRight 77 = .ok (.dup2, 1) := dk_92 (dk_at dksX1_arePiecesRight_3 6 rfl rfl)
theorem dX1_arePiecesRight_78 : decode cX1_arePiecesRight 78 = .ok (.iaload, 1) := dk_46 (dk_at dksX1_arePiecesRight_3 7 rfl rfl)
theorem dX1_arePiecesRight_79 : decode cX1_arePiecesRight 79 = .ok (.aload_n 3, 1) := dk_45 (dk_at dksX1_arePiecesRight_3 8 rfl rfl)
theorem dX1_arePiecesRight_80 : decode cX1_arePiecesRight 80 = .ok (.getfield 184, 3) := dk_180 0 184 (dk_at dksX1_arePiecesRight_3 9 rfl rfl)
theorem dX1_arePiecesRight_83 : decode cX1_arePiecesRight 83 = .ok (.getstatic 188, 3) := dk_178 0 188 (dk_at dksX1_arePiecesRight_3 12 rfl rfl)
theorem dX1_arePiecesRight_86 : decode cX1_arePiecesRight 86 = .ok (.if_acmp .ne 7, 3) := dk_166 0 7 (dk_at dksX1_arePiecesRight_3 15 rfl rfl)
theorem dX1_arePiecesRight_89 : decode cX1_arePiecesRight 89 = .ok (.iconst 0, 1) := dk_3 (dk_at dksX1_arePiecesRight_3 18 rfl rfl)
theorem dX1_arePiecesRight_90 : decode cX1_arePiecesRight 90 = .ok (.goto 8, 3) := dk_167 0 8 (dk_at dksX1_arePiecesRight_3 19 rfl rfl)
theorem dX1_arePiecesRight_93 : decode cX1_arePiecesRight 93 = .ok (.aload 5, 2) := dk_25 5 (dk_at dksX1_arePiecesRight_3 22 rfl rfl)
theorem dX1_arePiecesRight_95 : decode cX1_arePiecesRight 95 = .ok (.getfield 178, 3) := dk_180 0 178 (dk_at dksX1_arePiecesRight_4 0 rfl rfl)
theorem dX1_arePiecesRight_98 : decode cX1_arePiecesRight 98 = .ok (.iadd, 1) := dk_96 (dk_at dksX1_arePiecesRight_4 3 rfl rfl)
theorem dX1_arePiecesRight_99 : decode cX1_arePiecesRight 99 = .ok (.iastore, 1) := dk_79 (dk_at dksX1_arePiecesRight_4 4 rfl rfl)
theorem dX1_arePiecesRight_100 : decode cX1_arePiecesRight 100 = .ok (.goto (-54), 3) := dk_167 255 202 (dk_at dksX1_arePiecesRight_4 5 rfl rfl)
theorem dX1_arePiecesRight_103 : decode cX1_arePiecesRight 103 = .ok (.aload_n 3, 1) := dk_45 (dk_at dksX1_arePiecesRight_4 8 rfl rfl)
theorem dX1_arePiecesRight_104 : decode cX1_arePiecesRight 104 = .ok (.getfield 407, 3) := dk_180 1 151 (dk_at dksX1_arePiecesRight_4 9 rfl rfl)
theorem dX1_arePiecesRight_107 : decode cX1_arePiecesRight 107 = .ok (.invokevirtual 155, 3) := dk_182 0 155 (dk_at dksX1_arePiecesRight_4 12 rfl rfl)
theorem dX1_arePiecesRight_110 : decode cX1_arePiecesRight 110 = .ok (.astore 4, 2) := dk_58 4 (dk_at dksX1_arePiecesRight_4 15 rfl rfl)
theorem dX1_arePiecesRight_112 : decode cX1_arePiecesRight 112 = .ok (.aload 4, 2) := dk_25 4 (dk_at dksX1_arePiecesRight_4 17 rfl rfl)
theorem dX1_arePiecesRight_114 : decode cX1_arePiecesRight 114 = .ok (.invokeinterface 159 1, 5) := by decide +kernel
theorem dX1_arePiecesRight_119 : decode cX1_arePiecesRight 119 = .ok (.ifCond .eq 36, 3) := dk_153 0 36 (dk_at dksX1_arePiecesRight_5 0 rfl rfl)
theorem dX1_arePiecesRight_122 : decode cX1_arePiecesRight 122 = .ok (.aload 4, 2) := dk_25 4 (dk_at dksX1_arePiecesRight_5 3 rfl rfl)
theorem dX1_arePiecesRight_124 : decode cX1_arePiecesRight 124 = .ok (.invokeinterface 165 1, 5) := by decide +kernel
theorem dX1_arePiecesRight_129 : decode cX1_arePiecesRight 129 = .ok (.checkcast 169, 3) := dk_192 0 169 (dk_at dksX1_arePiecesRight_5 10 rfl rfl)
theorem dX1_arePiecesRight_132 : decode cX1_arePiecesRight 132 = .ok (.astore 5, 2) := dk_58 5 (dk_at dksX1_arePiecesRight_5 13 rfl rfl)
theorem dX1_arePiecesRight_134 : decode cX1_arePiecesRight 134 = .ok (.aload_n 1, 1) := dk_43 (dk_at dksX1_arePiecesRight_5 15 rfl rfl)
theorem dX1_arePiecesRight_135 : decode cX1_arePiecesRight 135 = .ok (.aload 5, 2) := dk_25 5 (dk_at dksX1_arePiecesRight_5 16 rfl rfl)
theorem dX1_arePiecesRight_137 : decode cX1_arePiecesRight 137 = .ok (.getfield 171, 3) := dk_180 0 171 (dk_at dksX1_arePiecesRight_5 18 rfl rfl)
theorem dX1_arePiecesRight_140 : decode cX1_arePiecesRight 140 = .ok (.getfield 137, 3) := dk_180 0 137 (dk_at dksX1_arePiecesRight_5 21 rfl rfl)
theorem dX1_arePiecesRight_143 : decode cX1_arePiecesRight 143 = .ok (.dup2, 1) := dk_92 (dk_at dksX1_arePiecesRight_6 0 rfl rfl)
theorem dX1_arePiecesRight_144 : decode cX1_arePiecesRight 144 = .ok (.iaload, 1) := dk_46 (dk_at dksX1_arePiecesRight_6 1 rfl rfl)
theorem dX1_arePiecesRight_145 : decode cX1_arePiecesRight 145 = .ok (.aload 5, 2) := dk_25 5 (dk_at dksX1_arePiecesRight_6 2 rfl rfl)
theorem dX1_arePiecesRight_147 : decode cX1_arePiecesRight 147 = .ok (.getfield 178, 3) := dk_180 0 178 (dk_at dksX1_arePiecesRight_6 4 rfl rfl)
theorem dX1_arePiecesRight_150 : decode cX1_arePiecesRight 150 = .ok (.iadd, 1) := dk_96 (dk_at dksX1_arePiecesRight_6 7 rfl rfl)
theorem dX1_arePiecesRight_151 : decode cX1_arePiecesRight 151 = .ok (.iastore, 1) := dk_79 (dk_at dksX1_arePiecesRight_6 8 rfl rfl)
theorem dX1_arePiecesRight_152 : decode cX1_arePiecesRight 152 = .ok (.goto (-40), 3) := dk_167 255 216 (dk_at dksX1_arePiecesRight_6 9 rfl rfl)
theorem dX1_arePiecesRight_155 : decode cX1_arePiecesRight 155 = .ok (.goto (-137), 3) := dk_167 255 119 (dk_at dksX1_arePiecesRight_6 12 rfl rfl)
theorem dX1_arePiecesRight_158 : decode cX1_arePiecesRight 158 = .ok (.iconst 1, 1) := dk_4 (dk_at dksX1_arePiecesRight_6 15 rfl rfl)
theorem dX1_arePiecesRight_159 : decode cX1_arePiecesRight 159 = .ok (.istore_n 2, 1) := dk_61 (dk_at dksX1_arePiecesRight_6 16 rfl rfl)
theorem dX1_arePiecesRight_160 : decode cX1_arePiecesRight 160 = .ok (.aload_n 0, 1) := dk_42 (dk_at dksX1_arePiecesRight_6 17 rfl rfl)
theorem dX1_arePiecesRight_161 : decode cX1_arePiecesRight 161 = .ok (.getfield 34, 3) := dk_180 0 34 (dk_at dksX1_arePiecesRight_6 18 rfl rfl)
theorem dX1_arePiecesRight_164 : decode cX1_arePiecesRight 164 = .ok (.invokevirtual 155, 3) := dk_182 0 155 (dk_at dksX1_arePiecesRight_6 21 rfl rfl)
theorem dX1_arePiecesRight_167 : decode cX1_arePiecesRight 167 = .ok (.astore_n 3, 1) := dk_78 (dk_at dksX1_arePiecesRight_7 0 rfl rfl)
theorem dX1_arePiecesRight_168 : decode cX1_arePiecesRight 168 = .ok (.aload_n 3, 1) := dk_45 (dk_at dksX1_arePiecesRight_7 1 rfl rfl)
theorem dX1_arePiecesRight_169 : decode cX1_arePiecesRight 169 = .ok (.invokeinterface 159 1, 5) := by decide +kernel
theorem dX1_arePiecesRight_174 : decode cX1_arePiecesRight 174 = .ok (.ifCond .eq 77, 3) := dk_153 0 77 (dk_at dksX1_arePiecesRight_7 7 rfl rfl)
theorem dX1_arePiecesRight_177 : decode cX1_arePiecesRight 177 = .ok (.aload_n 3, 1) := dk_45 (dk_at dksX1_arePiecesRight_7 10 rfl rfl)
theorem dX1_arePiecesRight_178 : decode cX1_arePiecesRight 178 = .ok (.invokeinterface 165 1, 5) := by decide +kernel
theorem dX1_arePiecesRight_183 : decode cX1_arePiecesRight 183 = .ok (.checkcast 113, 3) := dk_192 0 113 (dk_at dksX1_arePiecesRight_7 16 rfl rfl)
theorem dX1_arePiecesRight_186 : decode cX1_arePiecesRight 186 = .ok (.astore 4, 2) := dk_58 4 (dk_at dksX1_arePiecesRight_7 19 rfl rfl)
theorem dX1_arePiecesRight_188 : decode cX1_arePiecesRight 188 = .ok (.iload_n 2, 1) := dk_28 (dk_at dksX1_arePiecesRight_7 21 rfl rfl)
theorem dX1_arePiecesRight_189 : decode cX1_arePiecesRight 189 = .ok (.ifCond .eq 57, 3) := dk_153 0 57 (dk_at dksX1_arePiecesRight_8 0 rfl rfl)
theorem dX1_arePiecesRight_192 : decode cX1_arePiecesRight 192 = .ok (.aload 4, 2) := dk_25 4 (dk_at dksX1_arePiecesRight_8 3 rfl rfl)
theorem dX1_arePiecesRight_194 : decode cX1_arePiecesRight 194 = .ok (.getfield 455, 3) := dk_180 1 199 (dk_at dksX1_arePiecesRight_8 5 rfl rfl)
theorem dX1_arePiecesRight_197 : decode cX1_arePiecesRight 197 = .ok (.aload 4, 2) := dk_25 4 (dk_at dksX1_arePiecesRight_8 8 rfl rfl)
theorem dX1_arePiecesRight_199 : decode cX1_arePiecesRight 199 = .ok (.getfield 231, 3) := dk_180 0 231 (dk_at dksX1_arePiecesRight_8 10 rfl rfl)
theorem dX1_arePiecesRight_202 : decode cX1_arePiecesRight 202 = .ok (.aload_n 1, 1) := dk_43 (dk_at dksX1_arePiecesRight_8 13 rfl rfl)
theorem dX1_arePiecesRight_203 : decode cX1_arePiecesRight 203 = .ok (.aload 4, 2) := dk_25 4 (dk_at dksX1_arePiecesRight_8 14 rfl rfl)
theorem dX1_arePiecesRight_205 : decode cX1_arePiecesRight 205 = .ok (.getfield 137, 3) := dk_180 0 137 (dk_at dksX1_arePiecesRight_8 16 rfl rfl)
theorem dX1_arePiecesRight_208 : decode cX1_arePiecesRight 208 = .ok (.iaload, 1) := dk_46 (dk_at dksX1_arePiecesRight_8 19 rfl rfl)
theorem dX1_arePiecesRight_209 : decode cX1_arePiecesRight 209 = .ok (.iadd, 1) := dk_96 (dk_at dksX1_arePiecesRight_8 20 rfl rfl)
theorem dX1_arePiecesRight_210 : decode cX1_arePiecesRight 210 = .ok (.if_icmp .ne 36, 3) := dk_160 0 36 (dk_at dksX1_arePiecesRight_8 21 rfl rfl)
theorem dX1_arePiecesRight_213 : decode cX1_arePiecesRight 213 = .ok (.aload 4, 2) := dk_25 4 (dk_at dksX1_arePiecesRight_9 0 rfl rfl)
theorem dX1_arePiecesRight_215 : decode cX1_arePiecesRight 215 = .ok (.getfield 175, 3) := dk_180 0 175 (dk_at dksX1_arePiecesRight_9 2 rfl rfl)
theorem dX1_arePiecesRight_218 : decode cX1_arePiecesRight 218 = .ok (.aload 4, 2) := dk_25 4 (dk_at dksX1_arePiecesRight_9 5 rfl rfl)
theorem dX1_arePiecesRight_220 : decode cX1_arePiecesRight 220 = .ok (.getfield 231, 3) := dk_180 0 231 (dk_at dksX1_arePiecesRight_9 7 rfl rfl)
theorem dX1_arePiecesRight_223 : decode cX1_arePiecesRight 223 = .ok (.if_icmp .gt 23, 3) := dk_163 0 23 (dk_at dksX1_arePiecesRight_9 10 rfl rfl)
theorem dX1_arePiecesRight_226 : decode cX1_arePiecesRight 226 = .ok (.aload 4, 2) := dk_25 4 (dk_at dksX1_arePiecesRight_9 13 rfl rfl)
theorem dX1_arePiecesRight_228 : decode cX1_arePiecesRight 228 = .ok (.getfield 175, 3) := dk_180 0 175 (dk_at dksX1_arePiecesRight_9 15 rfl rfl)
theorem dX1_arePiecesRight_231 : decode cX1_arePiecesRight 231 = .ok (.ifCond .le 11, 3) := dk_158 0 11 (dk_at dksX1_arePiecesRight_9 18 rfl rfl)
theorem dX1_arePiecesRight_234 : decode cX1_arePiecesRight 234 = .ok (.aload 4, 2) := dk_25 4 (dk_at dksX1_arePiecesRight_9 21 rfl rfl)
theorem dX1_arePiecesRight_236 : decode cX1_arePiecesRight 236 = .ok (.invokevirtual 193, 3) := dk_182 0 193 (dk_at dksX1_arePiecesRight_10 0 rfl rfl)
theorem dX1_arePiecesRight_239 : decode cX1_arePiecesRight 239 = .ok (.ifCond .ne 7, 3) := dk_154 0 7 (dk_at dksX1_arePiecesRight_10 3 rfl rfl)
theorem dX1_arePiecesRight_242 : decode cX1_arePiecesRight 242 = .ok (.iconst 1, 1) := dk_4 (dk_at dksX1_arePiecesRight_10 6 rfl rfl)
theorem dX1_arePiecesRight_243 : decode cX1_arePiecesRight 243 = .ok (.goto 4, 3) := dk_167 0 4 (dk_at dksX1_arePiecesRight_10 7 rfl rfl)
theorem dX1_arePiecesRight_246 : decode cX1_arePiecesRight 246 = .ok (.iconst 0, 1) := dk_3 (dk_at dksX1_arePiecesRight_10 10 rfl rfl)
theorem dX1_arePiecesRight_247 : decode cX1_arePiecesRight 247 = .ok (.istore_n 2, 1) := dk_61 (dk_at dksX1_arePiecesRight_10 11 rfl rfl)
theorem dX1_arePiecesRight_248 : decode cX1_arePiecesRight 248 = .ok (.goto (-80), 3) := dk_167 255 176 (dk_at dksX1_arePiecesRight_10 12 rfl rfl)
theorem dX1_arePiecesRight_251 : decode cX1_arePiecesRight 251 = .ok (.iload_n 2, 1) := dk_28 (dk_at dksX1_arePiecesRight_10 15 rfl rfl)
theorem dX1_arePiecesRight_252 : decode cX1_arePiecesRight 252 = .ok (.ireturn, 1) := dk_172 (dk_at dksX1_arePiecesRight_10 16 rfl rfl)
abbrev cX1_areCostsRight : ByteArray := prog_1_method_63_code
def yX1_areCostsRight : MethodName := ⟨RX1, "areCostsRight", "()Z"⟩
def dkwX1_areCostsRight_5 : List UInt8 := [180, 0, 122, 42, 180, 1, 125, 97, 148, 154, 0, 7, 4, 167, 0, 4, 3, 172]
abbrev dktX1_areCostsRight_5 : List UInt8 := dkwX1_areCostsRight_5 ++ []
def dkwX1_areCostsRight_4 : List UInt8 := [167, 0, 4, 9, 97, 64, 31, 25, 4, 180, 1, 151, 184, 1, 188, 97, 64, 167, 255, 202, 31, 42]
abbrev dktX1_areCostsRight_4 : List UInt8 := dkwX1_areCostsRight_4 ++ dktX1_areCostsRight_5
def dkwX1_areCostsRight_3 : List UInt8 := [192, 0, 151, 58, 4, 31, 25, 4, 180, 0, 184, 182, 1, 138, 153, 0, 11, 25, 4, 180, 1, 31]
abbrev dktX1_areCostsRight_3 : List UInt8 := dkwX1_areCostsRight_3 ++ dktX1_areCostsRight_4
def dkwX1_areCostsRight_2 : List UInt8 := [180, 0, 37, 182, 0, 155, 78, 45, 185, 0, 159, 1, 0, 153, 0, 51, 45, 185, 0, 165, 1, 0]
abbrev dktX1_areCostsRight_2 : List UInt8 := dkwX1_areCostsRight_2 ++ dktX1_areCostsRight_3
def dkwX1_areCostsRight_1 : List UInt8 := [185, 0, 165, 1, 0, 192, 0, 113, 58, 4, 31, 25, 4, 180, 0, 234, 97, 64, 167, 255, 228, 42]
abbrev dktX1_areCostsRight_1 : List UInt8 := dkwX1_areCostsRight_1 ++ dktX1_areCostsRight_2
def dkwX1_areCostsRight_0 : List UInt8 := [42, 180, 1, 75, 64, 42, 180, 0, 34, 182, 0, 155, 78, 45, 185, 0, 159, 1, 0, 153, 0, 25, 45]
abbrev dktX1_areCostsRight_0 : List UInt8 := dkwX1_areCostsRight_0 ++ dktX1_areCostsRight_1
theorem dksX1_areCostsRight_0 : cX1_areCostsRight.data.toList.drop 0 = dktX1_areCostsRight_0 := by decide +kernel
theorem dksX1_areCostsRight_1 : cX1_areCostsRight.data.toList.drop 23 = dktX1_areCostsRight_1 := dk_seg dksX1_areCostsRight_0 23 rfl rfl
theorem dksX1_areCostsRight_2 : cX1_areCostsRight.data.toList.drop 45 = dktX1_areCostsRight_2 := dk_seg dksX1_areCostsRight_1 22 rfl rfl
theorem dksX1_areCostsRight_3 : cX1_areCostsRight.data.toList.drop 67 = dktX1_areCostsRight_3 := dk_seg dksX1_areCostsRight_2 22 rfl rfl
theorem dksX1_areCostsRight_4 : cX1_areCostsRight.data.toList.drop 89 = dktX1_areCostsRight_4 := dk_seg dksX1_areCostsRight_3 22 rfl rfl
theorem dksX1_areCostsRight_5 : cX1_areCostsRight.data.toList.drop 111 = dktX1_areCostsRight_5 := dk_seg dksX1_areCostsRight_4 22 rfl rfl
theorem dX1_areCostsRight_0 : decode cX1_areCostsRight 0 = .ok (.aload_n 0, 1) := dk_42 (dk_at dksX1_areCostsRight_0 0 rfl rfl)
theorem dX1_areCostsRight_1 : decode cX1_areCostsRight 1 = .ok (.getfield 331, 3) := dk_180 1 75 (dk_at dksX1_areCostsRight_0 1 rfl rfl)
theorem dX1_areCostsRight_4 : decode cX1_areCostsRight 4 = .ok (.lstore_n 1, 1) := dk_64 (dk_at dksX1_areCostsRight_0 4 rfl rfl)
theorem dX1_areCostsRight_5 : decode cX1_areCostsRight 5 = .ok (.aload_n 0, 1) := dk_42 (dk_at dksX1_areCostsRight_0 5 rfl rfl)
theorem dX1_areCostsRight_6 : decode cX1_areCostsRight 6 = .ok (.getfield 34, 3) := dk_180 0 34 (dk_at dksX1_areCostsRight_0 6 rfl rfl)
theorem dX1_areCostsRight_9 : decode cX1_areCostsRight 9 = .ok (.invokevirtual 155, 3) := dk_182 0 155 (dk_at dksX1_areCostsRight_0 9 rfl rfl)
theorem dX1_areCostsRight_12 : decode cX1_areCostsRight 12 = .ok (.astore_n 3, 1) := dk_78 (dk_at dksX1_areCostsRight_0 12 rfl rfl)
theorem dX1_areCostsRight_13 : decode cX1_areCostsRight 13 = .ok (.aload_n 3, 1) := dk_45 (dk_at dksX1_areCostsRight_0 13 rfl rfl)
theorem dX1_areCostsRight_14 : decode cX1_areCostsRight 14 = .ok (.invokeinterface 159 1, 5) := by decide +kernel
theorem dX1_areCostsRight_19 : decode cX1_areCostsRight 19 = .ok (.ifCond .eq 25, 3) := dk_153 0 25 (dk_at dksX1_areCostsRight_0 19 rfl rfl)
theorem dX1_areCostsRight_22 : decode cX1_areCostsRight 22 = .ok (.aload_n 3, 1) := dk_45 (dk_at dksX1_areCostsRight_0 22 rfl rfl)
theorem dX1_areCostsRight_23 : decode cX1_areCostsRight 23 = .ok (.invokeinterface 165 1, 5) := by decide +kernel
theorem dX1_areCostsRight_28 : decode cX1_areCostsRight 28 = .ok (.checkcast 113, 3) := dk_192 0 113 (dk_at dksX1_areCostsRight_1 5 rfl rfl)
theorem dX1_areCostsRight_31 : decode cX1_areCostsRight 31 = .ok (.astore 4, 2) := dk_58 4 (dk_at dksX1_areCostsRight_1 8 rfl rfl)
theorem dX1_areCostsRight_33 : decode cX1_areCostsRight 33 = .ok (.lload_n 1, 1) := dk_31 (dk_at dksX1_areCostsRight_1 10 rfl rfl)
theorem dX1_areCostsRight_34 : decode cX1_areCostsRight 34 = .ok (.aload 4, 2) := dk_25 4 (dk_at dksX1_areCostsRight_1 11 rfl rfl)
theorem dX1_areCostsRight_36 : decode cX1_areCostsRight 36 = .ok (.getfield 234, 3) := dk_180 0 234 (dk_at dksX1_areCostsRight_1 13 rfl rfl)
theorem dX1_areCostsRight_39 : decode cX1_areCostsRight 39 = .ok (.ladd, 1) := dk_97 (dk_at dksX1_areCostsRight_1 16 rfl rfl)
theorem dX1_areCostsRight_40 : decode cX1_areCostsRight 40 = .ok (.lstore_n 1, 1) := dk_64 (dk_at dksX1_areCostsRight_1 17 rfl rfl)
theorem dX1_areCostsRight_41 : decode cX1_areCostsRight 41 = .ok (.goto (-28), 3) := dk_167 255 228 (dk_at dksX1_areCostsRight_1 18 rfl rfl)
theorem dX1_areCostsRight_44 : decode cX1_areCostsRight 44 = .ok (.aload_n 0, 1) := dk_42 (dk_at dksX1_areCostsRight_1 21 rfl rfl)
theorem dX1_areCostsRight_45 : decode cX1_areCostsRight 45 = .ok (.getfield 37, 3) := dk_180 0 37 (dk_at dksX1_areCostsRight_2 0 rfl rfl)
theorem dX1_areCostsRight_48 : decode cX1_areCostsRight 48 = .ok (.invokevirtual 155, 3) := dk_182 0 155 (dk_at dksX1_areCostsRight_2 3 rfl rfl)
theorem dX1_areCostsRight_51 : decode cX1_areCostsRight 51 = .ok (.astore_n 3, 1) := dk_78 (dk_at dksX1_areCostsRight_2 6 rfl rfl)
theorem dX1_areCostsRight_52 : decode cX1_areCostsRight 52 = .ok (.aload_n 3, 1) := dk_45 (dk_at dksX1_areCostsRight_2 7 rfl rfl)
theorem dX1_areCostsRight_53 : decode cX1_areCostsRight 53 = .ok (.invokeinterface 159 1, 5) := by decide +kernel
theorem dX1_areCostsRight_58 : decode cX1_areCostsRight 58 = .ok (.ifCond .eq 51, 3) := dk_153 0 51 (dk_at dksX1_areCostsRight_2 13 rfl rfl)
theorem dX1_areCostsRight_61 : decode cX1_areCostsRight 61 = .ok (.aload_n 3, 1) := dk_45 (dk_at dksX1_areCostsRight_2 16 rfl rfl)
theorem dX1_areCostsRight_62 : decode cX1_areCostsRight 62 = .ok (.invokeinterface 165 1, 5) := by decide +kernel
theorem dX1_areCostsRight_67 : decode cX1_areCostsRight 67 = .ok (.checkcast 151, 3) := dk_192 0 151 (dk_at dksX1_areCostsRight_3 0 rfl rfl)
theorem dX1_areCostsRight_70 : decode cX1_areCostsRight 70 = .ok (.astore 4, 2) := dk_58 4 (dk_at dksX1_areCostsRight_3 3 rfl rfl)
theorem dX1_areCostsRight_72 : decode cX1_areCostsRight 72 = .ok (.lload_n 1, 1) := dk_31 (dk_at dksX1_areCostsRight_3 5 rfl rfl)
theorem dX1_areCostsRight_73 : decode cX1_areCostsRight 73 = .ok (.aload 4, 2) := dk_25 4 (dk_at dksX1_areCostsRight_3 6 rfl rfl)
theorem dX1_areCostsRight_75 : decode cX1_areCostsRight 75 = .ok (.getfield 184, 3) := dk_180 0 184 (dk_at dksX1_areCostsRight_3 8 rfl rfl)
theorem dX1_areCostsRight_78 : decode cX1_areCostsRight 78 = .ok (.invokevirtual 394, 3) := dk_182 1 138 (dk_at dksX1_areCostsRight_3 11 rfl rfl)
theorem dX1_areCostsRight_81 : decode cX1_areCostsRight 81 = .ok (.ifCond .eq 11, 3) := dk_153 0 11 (dk_at dksX1_areCostsRight_3 14 rfl rfl)
theorem dX1_areCostsRight_84 : decode cX1_areCostsRight 84 = .ok (.aload 4, 2) := dk_25 4 (dk_at dksX1_areCostsRight_3 17 rfl rfl)
theorem dX1_areCostsRight_86 : decode cX1_areCostsRight 86 = .ok (.getfield 287, 3) := dk_180 1 31 (dk_at dksX1_areCostsRight_3 19 rfl rfl)
theorem dX1_areCostsRight_89 : decode cX1_areCostsRight 89 = .ok (.goto 4, 3) := dk_167 0 4 (dk_at dksX1_areCostsRight_4 0 rfl rfl)
theorem dX1_areCostsRight_92 : decode cX1_areCostsRight 92 = .ok (.lconst 0, 1) := dk_9 (dk_at dksX1_areCostsRight_4 3 rfl rfl)
theorem dX1_areCostsRight_93 : decode cX1_areCostsRight 93 = .ok (.ladd, 1) := dk_97 (dk_at dksX1_areCostsRight_4 4 rfl rfl)
theorem dX1_areCostsRight_94 : decode cX1_areCostsRight 94 = .ok (.lstore_n 1, 1) := dk_64 (dk_at dksX1_areCostsRight_4 5 rfl rfl)
theorem dX1_areCostsRight_95 : decode cX1_areCostsRight 95 = .ok (.lload_n 1, 1) := dk_31 (dk_at dksX1_areCostsRight_4 6 rfl rfl)
theorem dX1_areCostsRight_96 : decode cX1_areCostsRight 96 = .ok (.aload 4, 2) := dk_25 4 (dk_at dksX1_areCostsRight_4 7 rfl rfl)
theorem dX1_areCostsRight_98 : decode cX1_areCostsRight 98 = .ok (.getfield 407, 3) := dk_180 1 151 (dk_at dksX1_areCostsRight_4 9 rfl rfl)
theorem dX1_areCostsRight_101 : decode cX1_areCostsRight 101 = .ok (.invokestatic 444, 3) := dk_184 1 188 (dk_at dksX1_areCostsRight_4 12 rfl rfl)
theorem dX1_areCostsRight_104 : decode cX1_areCostsRight 104 = .ok (.ladd, 1) := dk_97 (dk_at dksX1_areCostsRight_4 15 rfl rfl)
theorem dX1_areCostsRight_105 : decode cX1_areCostsRight 105 = .ok (.lstore_n 1, 1) := dk_64 (dk_at dksX1_areCostsRight_4 16 rfl rfl)
theorem dX1_areCostsRight_106 : decode cX1_areCostsRight 106 = .ok (.goto (-54), 3) := dk_167 255 202 (dk_at dksX1_areCostsRight_4 17 rfl rfl)
theorem dX1_areCostsRight_109 : decode cX1_areCostsRight 109 = .ok (.lload_n 1, 1) := dk_31 (dk_at dksX1_areCostsRight_4 20 rfl rfl)
theorem dX1_areCostsRight_110 : decode cX1_areCostsRight 110 = .ok (.aload_n 0, 1) := dk_42 (dk_at dksX1_areCostsRight_4 21 rfl rfl)
theorem dX1_areCostsRight_111 : decode cX1_areCostsRight 111 = .ok (.getfield 122, 3) := dk_180 0 122 (dk_at dksX1_areCostsRight_5 0 rfl rfl)
theorem dX1_areCostsRight_114 : decode cX1_areCostsRight 114 = .ok (.aload_n 0, 1) := dk_42 (dk_at dksX1_areCostsRight_5 3 rfl rfl)
theorem dX1_areCostsRight_115 : decode cX1_areCostsRight 115 = .ok (.getfield 381, 3) := dk_180 1 125 (dk_at dksX1_areCostsRight_5 4 rfl rfl)
theorem dX1_areCostsRight_118 : decode cX1_areCostsRight 118 = .ok (.ladd, 1) := dk_97 (dk_at dksX1_areCostsRight_5 7 rfl rfl)
theorem dX1_areCostsRight_119 : decode cX1_areCostsRight 119 = .ok (.lcmp, 1) := dk_148 (dk_at dksX1_areCostsRight_5 8 rfl rfl)
theorem dX1_areCostsRight_120 : decode cX1_areCostsRight 120 = .ok (.ifCond .ne 7, 3) := dk_154 0 7 (dk_at dksX1_areCostsRight_5 9 rfl rfl)
theorem dX1_areCostsRight_123 : decode cX1_areCostsRight 123 = .ok (.iconst 1, 1) := dk_4 (dk_at dksX1_areCostsRight_5 12 rfl rfl)
theorem dX1_areCostsRight_124 : decode cX1_areCostsRight 124 = .ok (.goto 4, 3) := dk_167 0 4 (dk_at dksX1_areCostsRight_5 13 rfl rfl)
theorem dX1_areCostsRight_127 : decode cX1_areCostsRight 127 = .ok (.iconst 0, 1) := dk_3 (dk_at dksX1_areCostsRight_5 16 rfl rfl)
theorem dX1_areCostsRight_128 : decode cX1_areCostsRight 128 = .ok (.ireturn, 1) := dk_172 (dk_at dksX1_areCostsRight_5 17 rfl rfl)
abbrev cX1_costOf : ByteArray := prog_1_method_58_code
def yX1_costOf : MethodName := ⟨RX1, "costOf", "(Ljava/util/ArrayList;)J"⟩
def dkwX1_costOf_1 : List UInt8 := [192, 0, 169, 58, 4, 31, 25, 4, 180, 1, 30, 97, 64, 167, 255, 228, 31, 173]
abbrev dktX1_costOf_1 : List UInt8 := dkwX1_costOf_1 ++ []
def dkwX1_costOf_0 : List UInt8 := [9, 64, 42, 182, 0, 155, 78, 45, 185, 0, 159, 1, 0, 153, 0, 25, 45, 185, 0, 165, 1, 0]
abbrev dktX1_costOf_0 : List UInt8 := dkwX1_costOf_0 ++ dktX1_costOf_1
theorem dksX1_costOf_0 : cX1_costOf.data.toList.drop 0 = dktX1_costOf_0 := by decide +kernel
theorem dksX1_costOf_1 : cX1_costOf.data.toList.drop 22 = dktX1_costOf_1 := dk_seg dksX1_costOf_0 22 rfl rfl
theorem dX1_costOf_0 : decode cX1_costOf 0 = .ok (.lconst 0, 1) := dk_9 (dk_at dksX1_costOf_0 0 rfl rfl)
theorem dX1_costOf_1 : decode cX1_costOf 1 = .ok (.lstore_n 1, 1) := dk_64 (dk_at dksX1_costOf_0 1 rfl rfl)
theorem dX1_costOf_2 : decode cX1_costOf 2 = .ok (.aload_n 0, 1) := dk_42 (dk_at dksX1_costOf_0 2 rfl rfl)
theorem dX1_costOf_3 : decode cX1_costOf 3 = .ok (.invokevirtual 155, 3) := dk_182 0 155 (dk_at dksX1_costOf_0 3 rfl rfl)
theorem dX1_costOf_6 : decode cX1_costOf 6 = .ok (.astore_n 3, 1) := dk_78 (dk_at dksX1_costOf_0 6 rfl rfl)
theorem dX1_costOf_7 : decode cX1_costOf 7 = .ok (.aload_n 3, 1) := dk_45 (dk_at dksX1_costOf_0 7 rfl rfl)
theorem dX1_costOf_8 : decode cX1_costOf 8 = .ok (.invokeinterface 159 1, 5) := by decide +kernel
theorem dX1_costOf_13 : decode cX1_costOf 13 = .ok (.ifCond .eq 25, 3) := dk_153 0 25 (dk_at dksX1_costOf_0 13 rfl rfl)
theorem dX1_costOf_16 : decode cX1_costOf 16 = .ok (.aload_n 3, 1) := dk_45 (dk_at dksX1_costOf_0 16 rfl rfl)
theorem dX1_costOf_17 : decode cX1_costOf 17 = .ok (.invokeinterface 165 1, 5) := by decide +kernel
theorem dX1_costOf_22 : decode cX1_costOf 22 = .ok (.checkcast 169, 3) := dk_192 0 169 (dk_at dksX1_costOf_1 0 rfl rfl)
theorem dX1_costOf_25 : decode cX1_costOf 25 = .ok (.astore 4, 2) := dk_58 4 (dk_at dksX1_costOf_1 3 rfl rfl)
theorem dX1_costOf_27 : decode cX1_costOf 27 = .ok (.lload_n 1, 1) := dk_31 (dk_at dksX1_costOf_1 5 rfl rfl)
theorem dX1_costOf_28 : decode cX1_costOf 28 = .ok (.aload 4, 2) := dk_25 4 (dk_at dksX1_costOf_1 6 rfl rfl)
theorem dX1_costOf_30 : decode cX1_costOf 30 = .ok (.getfield 286, 3) := dk_180 1 30 (dk_at dksX1_costOf_1 8 rfl rfl)
theorem dX1_costOf_33 : decode cX1_costOf 33 = .ok (.ladd, 1) := dk_97 (dk_at dksX1_costOf_1 11 rfl rfl)
theorem dX1_costOf_34 : decode cX1_costOf 34 = .ok (.lstore_n 1, 1) := dk_64 (dk_at dksX1_costOf_1 12 rfl rfl)
theorem dX1_costOf_35 : decode cX1_costOf 35 = .ok (.goto (-28), 3) := dk_167 255 228 (dk_at dksX1_costOf_1 13 rfl rfl)
theorem dX1_costOf_38 : decode cX1_costOf 38 = .ok (.lload_n 1, 1) := dk_31 (dk_at dksX1_costOf_1 16 rfl rfl)
theorem dX1_costOf_39 : decode cX1_costOf 39 = .ok (.lreturn, 1) := dk_173 (dk_at dksX1_costOf_1 17 rfl rfl)
abbrev cX1_addMachine : ByteArray := prog_1_method_8_code
def yX1_addMachine : MethodName := ⟨RX1, "addMachine", "(IIII)I"⟩
def dkwX1_addMachine_4 : List UInt8 := [182, 0, 55, 4, 100, 172]
abbrev dktX1_addMachine_4 : List UInt8 := dkwX1_addMachine_4 ++ []
def dkwX1_addMachine_3 : List UInt8 := [180, 0, 25, 187, 0, 62, 89, 27, 28, 29, 21, 4, 183, 0, 64, 182, 0, 67, 87, 42, 180, 0, 25]
abbrev dktX1_addMachine_3 : List UInt8 := dkwX1_addMachine_3 ++ dktX1_addMachine_4
def dkwX1_addMachine_2 : List UInt8 := [3, 184, 0, 51, 42, 180, 0, 25, 182, 0, 55, 8, 162, 0, 7, 4, 167, 0, 4, 3, 184, 0, 59, 42]
abbrev dktX1_addMachine_2 : List UInt8 := dkwX1_addMachine_2 ++ dktX1_addMachine_3
def dkwX1_addMachine_1 : List UInt8 := [17, 1, 244, 184, 0, 47, 153, 0, 18, 21, 4, 4, 16, 99, 184, 0, 47, 153, 0, 7, 4, 167, 0, 4]
abbrev dktX1_addMachine_1 : List UInt8 := dkwX1_addMachine_1 ++ dktX1_addMachine_2
def dkwX1_addMachine_0 : List UInt8 := [27, 3, 16, 20, 184, 0, 47, 153, 0, 39, 28, 3, 16, 50, 184, 0, 47, 153, 0, 29, 29, 8]
abbrev dktX1_addMachine_0 : List UInt8 := dkwX1_addMachine_0 ++ dktX1_addMachine_1
theorem dksX1_addMachine_0 : cX1_addMachine.data.toList.drop 0 = dktX1_addMachine_0 := by decide +kernel
theorem dksX1_addMachine_1 : cX1_addMachine.data.toList.drop 22 = dktX1_addMachine_1 := dk_seg dksX1_addMachine_0 22 rfl rfl
theorem dksX1_addMachine_2 : cX1_addMachine.data.toList.drop 46 = dktX1_addMachine_2 := dk_seg dksX1_addMachine_1 24 rfl rfl
theorem dksX1_addMachine_3 : cX1_addMachine.data.toList.drop 70 = dktX1_addMachine_3 := dk_seg dksX1_addMachine_2 24 rfl rfl
theorem dksX1_addMachine_4 : cX1_addMachine.data.toList.drop 93 = dktX1_addMachine_4 := dk_seg dksX1_addMachine_3 23 rfl rfl
theorem dX1_addMachine_0 : decode cX1_addMachine 0 = .ok (.iload_n 1, 1) := dk_27 (dk_at dksX1_addMachine_0 0 rfl rfl)
theorem dX1_addMachine_1 : decode cX1_addMachine 1 = .ok (.iconst 0, 1) := dk_3 (dk_at dksX1_addMachine_0 1 rfl rfl)
theorem dX1_addMachine_2 : decode cX1_addMachine 2 = .ok (.bipush 20, 2) := dk_16 20 (dk_at dksX1_addMachine_0 2 rfl rfl)
theorem dX1_addMachine_4 : decode cX1_addMachine 4 = .ok (.invokestatic 47, 3) := dk_184 0 47 (dk_at dksX1_addMachine_0 4 rfl rfl)
theorem dX1_addMachine_7 : decode cX1_addMachine 7 = .ok (.ifCond .eq 39, 3) := dk_153 0 39 (dk_at dksX1_addMachine_0 7 rfl rfl)
theorem dX1_addMachine_10 : decode cX1_addMachine 10 = .ok (.iload_n 2, 1) := dk_28 (dk_at dksX1_addMachine_0 10 rfl rfl)
theorem dX1_addMachine_11 : decode cX1_addMachine 11 = .ok (.iconst 0, 1) := dk_3 (dk_at dksX1_addMachine_0 11 rfl rfl)
theorem dX1_addMachine_12 : decode cX1_addMachine 12 = .ok (.bipush 50, 2) := dk_16 50 (dk_at dksX1_addMachine_0 12 rfl rfl)
theorem dX1_addMachine_14 : decode cX1_addMachine 14 = .ok (.invokestatic 47, 3) := dk_184 0 47 (dk_at dksX1_addMachine_0 14 rfl rfl)
theorem dX1_addMachine_17 : decode cX1_addMachine 17 = .ok (.ifCond .eq 29, 3) := dk_153 0 29 (dk_at dksX1_addMachine_0 17 rfl rfl)
theorem dX1_addMachine_20 : decode cX1_addMachine 20 = .ok (.iload_n 3, 1) := dk_29 (dk_at dksX1_addMachine_0 20 rfl rfl)
theorem dX1_addMachine_21 : decode cX1_addMachine 21 = .ok (.iconst 5, 1) := dk_8 (dk_at dksX1_addMachine_0 21 rfl rfl)
theorem dX1_addMachine_22 : decode cX1_addMachine 22 = .ok (.sipush 500, 3) := dk_17 1 244 (dk_at dksX1_addMachine_1 0 rfl rfl)
theorem dX1_addMachine_25 : decode cX1_addMachine 25 = .ok (.invokestatic 47, 3) := dk_184 0 47 (dk_at dksX1_addMachine_1 3 rfl rfl)
theorem dX1_addMachine_28 : decode cX1_addMachine 28 = .ok (.ifCond .eq 18, 3) := dk_153 0 18 (dk_at dksX1_addMachine_1 6 rfl rfl)
theorem dX1_addMachine_31 : decode cX1_addMachine 31 = .ok (.iload 4, 2) := dk_21 4 (dk_at dksX1_addMachine_1 9 rfl rfl)
theorem dX1_addMachine_33 : decode cX1_addMachine 33 = .ok (.iconst 1, 1) := dk_4 (dk_at dksX1_addMachine_1 11 rfl rfl)
theorem dX1_addMachine_34 : decode cX1_addMachine 34 = .ok (.bipush 99, 2) := dk_16 99 (dk_at dksX1_addMachine_1 12 rfl rfl)
theorem dX1_addMachine_36 : decode cX1_addMachine 36 = .ok (.invokestatic 47, 3) := dk_184 0 47 (dk_at dksX1_addMachine_1 14 rfl rfl)
theorem dX1_addMachine_39 : decode cX1_addMachine 39 = .ok (.ifCond .eq 7, 3) := dk_153 0 7 (dk_at dksX1_addMachine_1 17 rfl rfl)
theorem dX1_addMachine_42 : decode cX1_addMachine 42 = .ok (.iconst 1, 1) := dk_4 (dk_at dksX1_addMachine_1 20 rfl rfl)
theorem dX1_addMachine_43 : decode cX1_addMachine 43 = .ok (.goto 4, 3) := dk_167 0 4 (dk_at dksX1_addMachine_1 21 rfl rfl)
theorem dX1_addMachine_46 : decode cX1_addMachine 46 = .ok (.iconst 0, 1) := dk_3 (dk_at dksX1_addMachine_2 0 rfl rfl)
theorem dX1_addMachine_47 : decode cX1_addMachine 47 = .ok (.invokestatic 51, 3) := dk_184 0 51 (dk_at dksX1_addMachine_2 1 rfl rfl)
theorem dX1_addMachine_50 : decode cX1_addMachine 50 = .ok (.aload_n 0, 1) := dk_42 (dk_at dksX1_addMachine_2 4 rfl rfl)
theorem dX1_addMachine_51 : decode cX1_addMachine 51 = .ok (.getfield 25, 3) := dk_180 0 25 (dk_at dksX1_addMachine_2 5 rfl rfl)
theorem dX1_addMachine_54 : decode cX1_addMachine 54 = .ok (.invokevirtual 55, 3) := dk_182 0 55 (dk_at dksX1_addMachine_2 8 rfl rfl)
theorem dX1_addMachine_57 : decode cX1_addMachine 57 = .ok (.iconst 5, 1) := dk_8 (dk_at dksX1_addMachine_2 11 rfl rfl)
theorem dX1_addMachine_58 : decode cX1_addMachine 58 = .ok (.if_icmp .ge 7, 3) := dk_162 0 7 (dk_at dksX1_addMachine_2 12 rfl rfl)
theorem dX1_addMachine_61 : decode cX1_addMachine 61 = .ok (.iconst 1, 1) := dk_4 (dk_at dksX1_addMachine_2 15 rfl rfl)
theorem dX1_addMachine_62 : decode cX1_addMachine 62 = .ok (.goto 4, 3) := dk_167 0 4 (dk_at dksX1_addMachine_2 16 rfl rfl)
theorem dX1_addMachine_65 : decode cX1_addMachine 65 = .ok (.iconst 0, 1) := dk_3 (dk_at dksX1_addMachine_2 19 rfl rfl)
theorem dX1_addMachine_66 : decode cX1_addMachine 66 = .ok (.invokestatic 59, 3) := dk_184 0 59 (dk_at dksX1_addMachine_2 20 rfl rfl)
theorem dX1_addMachine_69 : decode cX1_addMachine 69 = .ok (.aload_n 0, 1) := dk_42 (dk_at dksX1_addMachine_2 23 rfl rfl)
theorem dX1_addMachine_70 : decode cX1_addMachine 70 = .ok (.getfield 25, 3) := dk_180 0 25 (dk_at dksX1_addMachine_3 0 rfl rfl)
theorem dX1_addMachine_73 : decode cX1_addMachine 73 = .ok (.new 62, 3) := dk_187 0 62 (dk_at dksX1_addMachine_3 3 rfl rfl)
theorem dX1_addMachine_76 : decode cX1_addMachine 76 = .ok (.dup, 1) := dk_89 (dk_at dksX1_addMachine_3 6 rfl rfl)
theorem dX1_addMachine_77 : decode cX1_addMachine 77 = .ok (.iload_n 1, 1) := dk_27 (dk_at dksX1_addMachine_3 7 rfl rfl)
theorem dX1_addMachine_78 : decode cX1_addMachine 78 = .ok (.iload_n 2, 1) := dk_28 (dk_at dksX1_addMachine_3 8 rfl rfl)
theorem dX1_addMachine_79 : decode cX1_addMachine 79 = .ok (.iload_n 3, 1) := dk_29 (dk_at dksX1_addMachine_3 9 rfl rfl)
theorem dX1_addMachine_80 : decode cX1_addMachine 80 = .ok (.iload 4, 2) := dk_21 4 (dk_at dksX1_addMachine_3 10 rfl rfl)
theorem dX1_addMachine_82 : decode cX1_addMachine 82 = .ok (.invokespecial 64, 3) := dk_183 0 64 (dk_at dksX1_addMachine_3 12 rfl rfl)
theorem dX1_addMachine_85 : decode cX1_addMachine 85 = .ok (.invokevirtual 67, 3) := dk_182 0 67 (dk_at dksX1_addMachine_3 15 rfl rfl)
theorem dX1_addMachine_88 : decode cX1_addMachine 88 = .ok (.pop, 1) := dk_87 (dk_at dksX1_addMachine_3 18 rfl rfl)
theorem dX1_addMachine_89 : decode cX1_addMachine 89 = .ok (.aload_n 0, 1) := dk_42 (dk_at dksX1_addMachine_3 19 rfl rfl)
theorem dX1_addMachine_90 : decode cX1_addMachine 90 = .ok (.getfield 25, 3) := dk_180 0 25 (dk_at dksX1_addMachine_3 20 rfl rfl)
theorem dX1_addMachine_93 : decode cX1_addMachine 93 = .ok (.invokevirtual 55, 3) := dk_182 0 55 (dk_at dksX1_addMachine_4 0 rfl rfl)
theorem dX1_addMachine_96 : decode cX1_addMachine 96 = .ok (.iconst 1, 1) := dk_4 (dk_at dksX1_addMachine_4 3 rfl rfl)
theorem dX1_addMachine_97 : decode cX1_addMachine 97 = .ok (.isub, 1) := dk_100 (dk_at dksX1_addMachine_4 4 rfl rfl)
theorem dX1_addMachine_98 : decode cX1_addMachine 98 = .ok (.ireturn, 1) := dk_172 (dk_at dksX1_addMachine_4 5 rfl rfl)
abbrev cX1_requireArgument : ByteArray := prog_1_method_3_code
def yX1_requireArgument : MethodName := ⟨RX1, "requireArgument", "(Z)V"⟩
def dkwX1_requireArgument_0 : List UInt8 := [26, 154, 0, 11, 187, 0, 7, 89, 183, 0, 9, 191, 177]
abbrev dktX1_requireArgument_0 : List UInt8 := dkwX1_requireArgument_0 ++ []
theorem dksX1_requireArgument_0 : cX1_requireArgument.data.toList.drop 0 = dktX1_requireArgument_0 := by decide +kernel
theorem dX1_requireArgument_0 : decode cX1_requireArgument 0 = .ok (.iload_n 0, 1) := dk_26 (dk_at dksX1_requireArgument_0 0 rfl rfl)
theorem dX1_requireArgument_1 : decode cX1_requireArgument 1 = .ok (.ifCond .ne 11, 3) := dk_154 0 11 (dk_at dksX1_requireArgument_0 1 rfl rfl)
theorem dX1_requireArgument_4 : decode cX1_requireArgument 4 = .ok (.new 7, 3) := dk_187 0 7 (dk_at dksX1_requireArgument_0 4 rfl rfl)
theorem dX1_requireArgument_7 : decode cX1_requireArgument 7 = .ok (.dup, 1) := dk_89 (dk_at dksX1_requireArgument_0 7 rfl rfl)
theorem dX1_requireArgument_8 : decode cX1_requireArgument 8 = .ok (.invokespecial 9, 3) := dk_183 0 9 (dk_at dksX1_requireArgument_0 8 rfl rfl)
theorem dX1_requireArgument_11 : decode cX1_requireArgument 11 = .ok (.athrow, 1) := dk_191 (dk_at dksX1_requireArgument_0 11 rfl rfl)
theorem dX1_requireArgument_12 : decode cX1_requireArgument 12 = .ok (.return_, 1) := dk_177 (dk_at dksX1_requireArgument_0 12 rfl rfl)
abbrev cX1_requireState : ByteArray := prog_1_method_4_code
def yX1_requireState : MethodName := ⟨RX1, "requireState", "(Z)V"⟩
def dkwX1_requireState_0 : List UInt8 := [26, 154, 0, 11, 187, 0, 10, 89, 183, 0, 12, 191, 177]
abbrev dktX1_requireState_0 : List UInt8 := dkwX1_requireState_0 ++ []
theorem dksX1_requireState_0 : cX1_requireState.data.toList.drop 0 = dktX1_requireState_0 := by decide +kernel
theorem dX1_requireState_0 : decode cX1_requireState 0 = .ok (.iload_n 0, 1) := dk_26 (dk_at dksX1_requireState_0 0 rfl rfl)
theorem dX1_requireState_1 : decode cX1_requireState 1 = .ok (.ifCond .ne 11, 3) := dk_154 0 11 (dk_at dksX1_requireState_0 1 rfl rfl)
theorem dX1_requireState_4 : decode cX1_requireState 4 = .ok (.new 10, 3) := dk_187 0 10 (dk_at dksX1_requireState_0 4 rfl rfl)
theorem dX1_requireState_7 : decode cX1_requireState 7 = .ok (.dup, 1) := dk_89 (dk_at dksX1_requireState_0 7 rfl rfl)
theorem dX1_requireState_8 : decode cX1_requireState 8 = .ok (.invokespecial 12, 3) := dk_183 0 12 (dk_at dksX1_requireState_0 8 rfl rfl)
theorem dX1_requireState_11 : decode cX1_requireState 11 = .ok (.athrow, 1) := dk_191 (dk_at dksX1_requireState_0 11 rfl rfl)
theorem dX1_requireState_12 : decode cX1_requireState 12 = .ok (.return_, 1) := dk_177 (dk_at dksX1_requireState_0 12 rfl rfl)
abbrev cX1_addPart : ByteArray := prog_1_method_9_code
def yX1_addPart : MethodName := ⟨RX1, "addPart", "(ZI)I"⟩
def dkwX1_addPart_3 : List UInt8 := [87, 29, 172]
abbrev dktX1_addPart_3 : List UInt8 := dkwX1_addPart_3 ++ []
def dkwX1_addPart_2 : List UInt8 := [187, 0, 71, 89, 29, 28, 183, 0, 73, 167, 0, 12, 187, 0, 76, 89, 29, 28, 183, 0, 78, 182, 0, 67]
abbrev dktX1_addPart_2 : List UInt8 := dkwX1_addPart_2 ++ dktX1_addPart_3
def dkwX1_addPart_1 : List UInt8 := [167, 0, 4, 3, 184, 0, 59, 42, 180, 0, 31, 182, 0, 55, 62, 42, 180, 0, 31, 27, 153, 0, 15]
abbrev dktX1_addPart_1 : List UInt8 := dkwX1_addPart_1 ++ dktX1_addPart_2
def dkwX1_addPart_0 : List UInt8 := [28, 3, 6, 184, 0, 47, 184, 0, 51, 42, 180, 0, 31, 182, 0, 55, 16, 12, 162, 0, 7, 4]
abbrev dktX1_addPart_0 : List UInt8 := dkwX1_addPart_0 ++ dktX1_addPart_1
theorem dksX1_addPart_0 : cX1_addPart.data.toList.drop 0 = dktX1_addPart_0 := by decide +kernel
theorem dksX1_addPart_1 : cX1_addPart.data.toList.drop 22 = dktX1_addPart_1 := dk_seg dksX1_addPart_0 22 rfl rfl
theorem dksX1_addPart_2 : cX1_addPart.data.toList.drop 45 = dktX1_addPart_2 := dk_seg dksX1_addPart_1 23 rfl rfl
theorem dksX1_addPart_3 : cX1_addPart.data.toList.drop 69 = dktX1_addPart_3 := dk_seg dksX1_addPart_2 24 rfl rfl
theorem dX1_addPart_0 : decode cX1_addPart 0 = .ok (.iload_n 2, 1) := dk_28 (dk_at dksX1_addPart_0 0 rfl rfl)
theorem dX1_addPart_1 : decode cX1_addPart 1 = .ok (.iconst 0, 1) := dk_3 (dk_at dksX1_addPart_0 1 rfl rfl)
theorem dX1_addPart_2 : decode cX1_addPart 2 = .ok (.iconst 3, 1) := dk_6 (dk_at dksX1_addPart_0 2 rfl rfl)
theorem dX1_addPart_3 : decode cX1_addPart 3 = .ok (.invokestatic 47, 3) := dk_184 0 47 (dk_at dksX1_addPart_0 3 rfl rfl)
theorem dX1_addPart_6 : decode cX1_addPart 6 = .ok (.invokestatic 51, 3) := dk_184 0 51 (dk_at dksX1_addPart_0 6 rfl rfl)
theorem dX1_addPart_9 : decode cX1_addPart 9 = .ok (.aload_n 0, 1) := dk_42 (dk_at dksX1_addPart_0 9 rfl rfl)
theorem dX1_addPart_10 : decode cX1_addPart 10 = .ok (.getfield 31, 3) := dk_180 0 31 (dk_at dksX1_addPart_0 10 rfl rfl)
theorem dX1_addPart_13 : decode cX1_addPart 13 = .ok (.invokevirtual 55, 3) := dk_182 0 55 (dk_at dksX1_addPart_0 13 rfl rfl)
theorem dX1_addPart_16 : decode cX1_addPart 16 = .ok (.bipush 12, 2) := dk_16 12 (dk_at dksX1_addPart_0 16 rfl rfl)
theorem dX1_addPart_18 : decode cX1_addPart 18 = .ok (.if_icmp .ge 7, 3) := dk_162 0 7 (dk_at dksX1_addPart_0 18 rfl rfl)
theorem dX1_addPart_21 : decode cX1_addPart 21 = .ok (.iconst 1, 1) := dk_4 (dk_at dksX1_addPart_0 21 rfl rfl)
theorem dX1_addPart_22 : decode cX1_addPart 22 = .ok (.goto 4, 3) := dk_167 0 4 (dk_at dksX1_addPart_1 0 rfl rfl)
theorem dX1_addPart_25 : decode cX1_addPart 25 = .ok (.iconst 0, 1) := dk_3 (dk_at dksX1_addPart_1 3 rfl rfl)
theorem dX1_addPart_26 : decode cX1_addPart 26 = .ok (.invokestatic 59, 3) := dk_184 0 59 (dk_at dksX1_addPart_1 4 rfl rfl)
theorem dX1_addPart_29 : decode cX1_addPart 29 = .ok (.aload_n 0, 1) := dk_42 (dk_at dksX1_addPart_1 7 rfl rfl)
theorem dX1_addPart_30 : decode cX1_addPart 30 = .ok (.getfield 31, 3) := dk_180 0 31 (dk_at dksX1_addPart_1 8 rfl rfl)
theorem dX1_addPart_33 : decode cX1_addPart 33 = .ok (.invokevirtual 55, 3) := dk_182 0 55 (dk_at dksX1_addPart_1 11 rfl rfl)
theorem dX1_addPart_36 : decode cX1_addPart 36 = .ok (.istore_n 3, 1) := dk_62 (dk_at dksX1_addPart_1 14 rfl rfl)
theorem dX1_addPart_37 : decode cX1_addPart 37 = .ok (.aload_n 0, 1) := dk_42 (dk_at dksX1_addPart_1 15 rfl rfl)
theorem dX1_addPart_38 : decode cX1_addPart 38 = .ok (.getfield 31, 3) := dk_180 0 31 (dk_at dksX1_addPart_1 16 rfl rfl)
theorem dX1_addPart_41 : decode cX1_addPart 41 = .ok (.iload_n 1, 1) := dk_27 (dk_at dksX1_addPart_1 19 rfl rfl)
theorem dX1_addPart_42 : decode cX1_addPart 42 = .ok (.ifCond .eq 15, 3) := dk_153 0 15 (dk_at dksX1_addPart_1 20 rfl rfl)
theorem dX1_addPart_45 : decode cX1_addPart 45 = .ok (.new 71, 3) := dk_187 0 71 (dk_at dksX1_addPart_2 0 rfl rfl)
theorem dX1_addPart_48 : decode cX1_addPart 48 = .ok (.dup, 1) := dk_89 (dk_at dksX1_addPart_2 3 rfl rfl)
theorem dX1_addPart_49 : decode cX1_addPart 49 = .ok (.iload_n 3, 1) := dk_29 (dk_at dksX1_addPart_2 4 rfl rfl)
theorem dX1_addPart_50 : decode cX1_addPart 50 = .ok (.iload_n 2, 1) := dk_28 (dk_at dksX1_addPart_2 5 rfl rfl)
theorem dX1_addPart_51 : decode cX1_addPart 51 = .ok (.invokespecial 73, 3) := dk_183 0 73 (dk_at dksX1_addPart_2 6 rfl rfl)
theorem dX1_addPart_54 : decode cX1_addPart 54 = .ok (.goto 12, 3) := dk_167 0 12 (dk_at dksX1_addPart_2 9 rfl rfl)
theorem dX1_addPart_57 : decode cX1_addPart 57 = .ok (.new 76, 3) := dk_187 0 76 (dk_at dksX1_addPart_2 12 rfl rfl)
theorem dX1_addPart_60 : decode cX1_addPart 60 = .ok (.dup, 1) := dk_89 (dk_at dksX1_addPart_2 15 rfl rfl)
theorem dX1_addPart_61 : decode cX1_addPart 61 = .ok (.iload_n 3, 1) := dk_29 (dk_at dksX1_addPart_2 16 rfl rfl)
theorem dX1_addPart_62 : decode cX1_addPart 62 = .ok (.iload_n 2, 1) := dk_28 (dk_at dksX1_addPart_2 17 rfl rfl)
theorem dX1_addPart_63 : decode cX1_addPart 63 = .ok (.invokespecial 78, 3) := dk_183 0 78 (dk_at dksX1_addPart_2 18 rfl rfl)
theorem dX1_addPart_66 : decode cX1_addPart 66 = .ok (.invokevirtual 67, 3) := dk_182 0 67 (dk_at dksX1_addPart_2 21 rfl rfl)
theorem dX1_addPart_69 : decode cX1_addPart 69 = .ok (.pop, 1) := dk_87 (dk_at dksX1_addPart_3 0 rfl rfl)
theorem dX1_addPart_70 : decode cX1_addPart 70 = .ok (.iload_n 3, 1) := dk_29 (dk_at dksX1_addPart_3 1 rfl rfl)
theorem dX1_addPart_71 : decode cX1_addPart 71 = .ok (.ireturn, 1) := dk_172 (dk_at dksX1_addPart_3 2 rfl rfl)
abbrev cX1_addComponent : ByteArray := prog_1_method_12_code
def yX1_addComponent : MethodName := ⟨RX1, "addComponent", "(IIII)I"⟩
def dkwX1_addComponent_4 : List UInt8 := [89, 28, 29, 21, 4, 183, 0, 100, 182, 0, 67, 87, 25, 6, 182, 0, 55, 172]
abbrev dktX1_addComponent_4 : List UInt8 := dkwX1_addComponent_4 ++ []
def dkwX1_addComponent_3 : List UInt8 := [58, 6, 25, 6, 182, 0, 55, 7, 162, 0, 7, 4, 167, 0, 4, 3, 184, 0, 59, 25, 6, 187, 0, 98]
abbrev dktX1_addComponent_3 : List UInt8 := dkwX1_addComponent_3 ++ dktX1_addComponent_4
def dkwX1_addComponent_2 : List UInt8 := [5, 184, 0, 47, 153, 0, 7, 4, 167, 0, 4, 3, 184, 0, 51, 25, 5, 192, 0, 71, 180, 0, 95]
abbrev dktX1_addComponent_2 : List UInt8 := dkwX1_addComponent_2 ++ dktX1_addComponent_3
def dkwX1_addComponent_1 : List UInt8 := [162, 0, 7, 4, 167, 0, 4, 3, 184, 0, 92, 29, 4, 16, 9, 184, 0, 47, 153, 0, 17, 21, 4, 2]
abbrev dktX1_addComponent_1 : List UInt8 := dkwX1_addComponent_1 ++ dktX1_addComponent_2
def dkwX1_addComponent_0 : List UInt8 := [42, 27, 182, 0, 88, 58, 5, 42, 28, 182, 0, 88, 87, 25, 5, 193, 0, 71, 153, 0, 12, 28, 27]
abbrev dktX1_addComponent_0 : List UInt8 := dkwX1_addComponent_0 ++ dktX1_addComponent_1
theorem dksX1_addComponent_0 : cX1_addComponent.data.toList.drop 0 = dktX1_addComponent_0 := by decide +kernel
theorem dksX1_addComponent_1 : cX1_addComponent.data.toList.drop 23 = dktX1_addComponent_1 := dk_seg dksX1_addComponent_0 23 rfl rfl
theorem dksX1_addComponent_2 : cX1_addComponent.data.toList.drop 47 = dktX1_addComponent_2 := dk_seg dksX1_addComponent_1 24 rfl rfl
theorem dksX1_addComponent_3 : cX1_addComponent.data.toList.drop 70 = dktX1_addComponent_3 := dk_seg dksX1_addComponent_2 23 rfl rfl
theorem dksX1_addComponent_4 : cX1_addComponent.data.toList.drop 94 = dktX1_addComponent_4 := dk_seg dksX1_addComponent_3 24 rfl rfl
theorem dX1_addComponent_0 : decode cX1_addComponent 0 = .ok (.aload_n 0, 1) := dk_42 (dk_at dksX1_addComponent_0 0 rfl rfl)
theorem dX1_addComponent_1 : decode cX1_addComponent 1 = .ok (.iload_n 1, 1) := dk_27 (dk_at dksX1_addComponent_0 1 rfl rfl)
theorem dX1_addComponent_2 : decode cX1_addComponent 2 = .ok (.invokevirtual 88, 3) := dk_182 0 88 (dk_at dksX1_addComponent_0 2 rfl rfl)
theorem dX1_addComponent_5 : decode cX1_addComponent 5 = .ok (.astore 5, 2) := dk_58 5 (dk_at dksX1_addComponent_0 5 rfl rfl)
theorem dX1_addComponent_7 : decode cX1_addComponent 7 = .ok (.aload_n 0, 1) := dk_42 (dk_at dksX1_addComponent_0 7 rfl rfl)
theorem dX1_addComponent_8 : decode cX1_addComponent 8 = .ok (.iload_n 2, 1) := dk_28 (dk_at dksX1_addComponent_0 8 rfl rfl)
theorem dX1_addComponent_9 : decode cX1_addComponent 9 = .ok (.invokevirtual 88, 3) := dk_182 0 88 (dk_at dksX1_addComponent_0 9 rfl rfl)
theorem dX1_addComponent_12 : decode cX1_addComponent 12 = .ok (.pop, 1) := dk_87 (dk_at dksX1_addComponent_0 12 rfl rfl)
theorem dX1_addComponent_13 : decode cX1_addComponent 13 = .ok (.aload 5, 2) := dk_25 5 (dk_at dksX1_addComponent_0 13 rfl rfl)
theorem dX1_addComponent_15 : decode cX1_addComponent 15 = .ok (.instanceof 71, 3) := dk_193 0 71 (dk_at dksX1_addComponent_0 15 rfl rfl)
theorem dX1_addComponent_18 : decode cX1_addComponent 18 = .ok (.ifCond .eq 12, 3) := dk_153 0 12 (dk_at dksX1_addComponent_0 18 rfl rfl)
theorem dX1_addComponent_21 : decode cX1_addComponent 21 = .ok (.iload_n 2, 1) := dk_28 (dk_at dksX1_addComponent_0 21 rfl rfl)
theorem dX1_addComponent_22 : decode cX1_addComponent 22 = .ok (.iload_n 1, 1) := dk_27 (dk_at dksX1_addComponent_0 22 rfl rfl)
theorem dX1_addComponent_23 : decode cX1_addComponent 23 = .ok (.if_icmp .ge 7, 3) := dk_162 0 7 (dk_at dksX1_addComponent_1 0 rfl rfl)
theorem dX1_addComponent_26 : decode cX1_addComponent 26 = .ok (.iconst 1, 1) := dk_4 (dk_at dksX1_addComponent_1 3 rfl rfl)
theorem dX1_addComponent_27 : decode cX1_addComponent 27 = .ok (.goto 4, 3) := dk_167 0 4 (dk_at dksX1_addComponent_1 4 rfl rfl)
theorem dX1_addComponent_30 : decode cX1_addComponent 30 = .ok (.iconst 0, 1) := dk_3 (dk_at dksX1_addComponent_1 7 rfl rfl)
theorem dX1_addComponent_31 : decode cX1_addComponent 31 = .ok (.invokestatic 92, 3) := dk_184 0 92 (dk_at dksX1_addComponent_1 8 rfl rfl)
theorem dX1_addComponent_34 : decode cX1_addComponent 34 = .ok (.iload_n 3, 1) := dk_29 (dk_at dksX1_addComponent_1 11 rfl rfl)
theorem dX1_addComponent_35 : decode cX1_addComponent 35 = .ok (.iconst 1, 1) := dk_4 (dk_at dksX1_addComponent_1 12 rfl rfl)
theorem dX1_addComponent_36 : decode cX1_addComponent 36 = .ok (.bipush 9, 2) := dk_16 9 (dk_at dksX1_addComponent_1 13 rfl rfl)
theorem dX1_addComponent_38 : decode cX1_addComponent 38 = .ok (.invokestatic 47, 3) := dk_184 0 47 (dk_at dksX1_addComponent_1 15 rfl rfl)
theorem dX1_addComponent_41 : decode cX1_addComponent 41 = .ok (.ifCond .eq 17, 3) := dk_153 0 17 (dk_at dksX1_addComponent_1 18 rfl rfl)
theorem dX1_addComponent_44 : decode cX1_addComponent 44 = .ok (.iload 4, 2) := dk_21 4 (dk_at dksX1_addComponent_1 21 rfl rfl)
theorem dX1_addComponent_46 : decode cX1_addComponent 46 = .ok (.iconst (-1), 1) := dk_2 (dk_at dksX1_addComponent_1 23 rfl rfl)
theorem dX1_addComponent_47 : decode cX1_addComponent 47 = .ok (.iconst 2, 1) := dk_5 (dk_at dksX1_addComponent_2 0 rfl rfl)
theorem dX1_addComponent_48 : decode cX1_addComponent 48 = .ok (.invokestatic 47, 3) := dk_184 0 47 (dk_at dksX1_addComponent_2 1 rfl rfl)
theorem dX1_addComponent_51 : decode cX1_addComponent 51 = .ok (.ifCond .eq 7, 3) := dk_153 0 7 (dk_at dksX1_addComponent_2 4 rfl rfl)
theorem dX1_addComponent_54 : decode cX1_addComponent 54 = .ok (.iconst 1, 1) := dk_4 (dk_at dksX1_addComponent_2 7 rfl rfl)
theorem dX1_addComponent_55 : decode cX1_addComponent 55 = .ok (.goto 4, 3) := dk_167 0 4 (dk_at dksX1_addComponent_2 8 rfl rfl)
theorem dX1_addComponent_58 : decode cX1_addComponent 58 = .ok (.iconst 0, 1) := dk_3 (dk_at dksX1_addComponent_2 11 rfl rfl)
theorem dX1_addComponent_59 : decode cX1_addComponent 59 = .ok (.invokestatic 51, 3) := dk_184 0 51 (dk_at dksX1_addComponent_2 12 rfl rfl)
theorem dX1_addComponent_62 : decode cX1_addComponent 62 = .ok (.aload 5, 2) := dk_25 5 (dk_at dksX1_addComponent_2 15 rfl rfl)
theorem dX1_addComponent_64 : decode cX1_addComponent 64 = .ok (.checkcast 71, 3) := dk_192 0 71 (dk_at dksX1_addComponent_2 17 rfl rfl)
theorem dX1_addComponent_67 : decode cX1_addComponent 67 = .ok (.getfield 95, 3) := dk_180 0 95 (dk_at dksX1_addComponent_2 20 rfl rfl)
theorem dX1_addComponent_70 : decode cX1_addComponent 70 = .ok (.astore 6, 2) := dk_58 6 (dk_at dksX1_addComponent_3 0 rfl rfl)
theorem dX1_addComponent_72 : decode cX1_addComponent 72 = .ok (.aload 6, 2) := dk_25 6 (dk_at dksX1_addComponent_3 2 rfl rfl)
theorem dX1_addComponent_74 : decode cX1_addComponent 74 = .ok (.invokevirtual 55, 3) := dk_182 0 55 (dk_at dksX1_addComponent_3 4 rfl rfl)
theorem dX1_addComponent_77 : decode cX1_addComponent 77 = .ok (.iconst 4, 1) := dk_7 (dk_at dksX1_addComponent_3 7 rfl rfl)
theorem dX1_addComponent_78 : decode cX1_addComponent 78 = .ok (.if_icmp .ge 7, 3) := dk_162 0 7 (dk_at dksX1_addComponent_3 8 rfl rfl)
theorem dX1_addComponent_81 : decode cX1_addComponent 81 = .ok (.iconst 1, 1) := dk_4 (dk_at dksX1_addComponent_3 11 rfl rfl)
theorem dX1_addComponent_82 : decode cX1_addComponent 82 = .ok (.goto 4, 3) := dk_167 0 4 (dk_at dksX1_addComponent_3 12 rfl rfl)
theorem dX1_addComponent_85 : decode cX1_addComponent 85 = .ok (.iconst 0, 1) := dk_3 (dk_at dksX1_addComponent_3 15 rfl rfl)
theorem dX1_addComponent_86 : decode cX1_addComponent 86 = .ok (.invokestatic 59, 3) := dk_184 0 59 (dk_at dksX1_addComponent_3 16 rfl rfl)
theorem dX1_addComponent_89 : decode cX1_addComponent 89 = .ok (.aload 6, 2) := dk_25 6 (dk_at dksX1_addComponent_3 19 rfl rfl)
theorem dX1_addComponent_91 : decode cX1_addComponent 91 = .ok (.new 98, 3) := dk_187 0 98 (dk_at dksX1_addComponent_3 21 rfl rfl)
theorem dX1_addComponent_94 : decode cX1_addComponent 94 = .ok (.dup, 1) := dk_89 (dk_at dksX1_addComponent_4 0 rfl rfl)
theorem dX1_addComponent_95 : decode cX1_addComponent 95 = .ok (.iload_n 2, 1) := dk_28 (dk_at dksX1_addComponent_4 1 rfl rfl)
theorem dX1_addComponent_96 : decode cX1_addComponent 96 = .ok (.iload_n 3, 1) := dk_29 (dk_at dksX1_addComponent_4 2 rfl rfl)
theorem dX1_addComponent_97 : decode cX1_addComponent 97 = .ok (.iload 4, 2) := dk_21 4 (dk_at dksX1_addComponent_4 3 rfl rfl)
theorem dX1_addComponent_99 : decode cX1_addComponent 99 = .ok (.invokespecial 100, 3) := dk_183 0 100 (dk_at dksX1_addComponent_4 5 rfl rfl)
theorem dX1_addComponent_102 : decode cX1_addComponent 102 = .ok (.invokevirtual 67, 3) := dk_182 0 67 (dk_at dksX1_addComponent_4 8 rfl rfl)
theorem dX1_addComponent_105 : decode cX1_addComponent 105 = .ok (.pop, 1) := dk_87 (dk_at dksX1_addComponent_4 11 rfl rfl)
theorem dX1_addComponent_106 : decode cX1_addComponent 106 = .ok (.aload 6, 2) := dk_25 6 (dk_at dksX1_addComponent_4 12 rfl rfl)
theorem dX1_addComponent_108 : decode cX1_addComponent 108 = .ok (.invokevirtual 55, 3) := dk_182 0 55 (dk_at dksX1_addComponent_4 14 rfl rfl)
theorem dX1_addComponent_111 : decode cX1_addComponent 111 = .ok (.ireturn, 1) := dk_172 (dk_at dksX1_addComponent_4 17 rfl rfl)
abbrev cX1_part : ByteArray := prog_1_method_10_code
def yX1_part : MethodName := ⟨RX1, "part", "(I)LFoundrymark$Part;"⟩
def dkwX1_part_1 : List UInt8 := [182, 0, 82, 192, 0, 86, 176]
abbrev dktX1_part_1 : List UInt8 := dkwX1_part_1 ++ []
def dkwX1_part_0 : List UInt8 := [27, 3, 42, 180, 0, 31, 182, 0, 55, 4, 100, 184, 0, 47, 184, 0, 79, 42, 180, 0, 31, 27]
abbrev dktX1_part_0 : List UInt8 := dkwX1_part_0 ++ dktX1_part_1
theorem dksX1_part_0 : cX1_part.data.toList.drop 0 = dktX1_part_0 := by decide +kernel
theorem dksX1_part_1 : cX1_part.data.toList.drop 22 = dktX1_part_1 := dk_seg dksX1_part_0 22 rfl rfl
theorem dX1_part_0 : decode cX1_part 0 = .ok (.iload_n 1, 1) := dk_27 (dk_at dksX1_part_0 0 rfl rfl)
theorem dX1_part_1 : decode cX1_part 1 = .ok (.iconst 0, 1) := dk_3 (dk_at dksX1_part_0 1 rfl rfl)
theorem dX1_part_2 : decode cX1_part 2 = .ok (.aload_n 0, 1) := dk_42 (dk_at dksX1_part_0 2 rfl rfl)
theorem dX1_part_3 : decode cX1_part 3 = .ok (.getfield 31, 3) := dk_180 0 31 (dk_at dksX1_part_0 3 rfl rfl)
theorem dX1_part_6 : decode cX1_part 6 = .ok (.invokevirtual 55, 3) := dk_182 0 55 (dk_at dksX1_part_0 6 rfl rfl)
theorem dX1_part_9 : decode cX1_part 9 = .ok (.iconst 1, 1) := dk_4 (dk_at dksX1_part_0 9 rfl rfl)
theorem dX1_part_10 : decode cX1_part 10 = .ok (.isub, 1) := dk_100 (dk_at dksX1_part_0 10 rfl rfl)
theorem dX1_part_11 : decode cX1_part 11 = .ok (.invokestatic 47, 3) := dk_184 0 47 (dk_at dksX1_part_0 11 rfl rfl)
theorem dX1_part_14 : decode cX1_part 14 = .ok (.invokestatic 79, 3) := dk_184 0 79 (dk_at dksX1_part_0 14 rfl rfl)
theorem dX1_part_17 : decode cX1_part 17 = .ok (.aload_n 0, 1) := dk_42 (dk_at dksX1_part_0 17 rfl rfl)
theorem dX1_part_18 : decode cX1_part 18 = .ok (.getfield 31, 3) := dk_180 0 31 (dk_at dksX1_part_0 18 rfl rfl)
theorem dX1_part_21 : decode cX1_part 21 = .ok (.iload_n 1, 1) := dk_27 (dk_at dksX1_part_0 21 rfl rfl)
theorem dX1_part_22 : decode cX1_part 22 = .ok (.invokevirtual 82, 3) := dk_182 0 82 (dk_at dksX1_part_1 0 rfl rfl)
theorem dX1_part_25 : decode cX1_part 25 = .ok (.checkcast 86, 3) := dk_192 0 86 (dk_at dksX1_part_1 3 rfl rfl)
theorem dX1_part_28 : decode cX1_part 28 = .ok (.areturn, 1) := dk_176 (dk_at dksX1_part_1 6 rfl rfl)
abbrev cX1_requireSupported : ByteArray := prog_1_method_5_code
def yX1_requireSupported : MethodName := ⟨RX1, "requireSupported", "(Z)V"⟩
def dkwX1_requireSupported_0 : List UInt8 := [26, 154, 0, 11, 187, 0, 13, 89, 183, 0, 15, 191, 177]
abbrev dktX1_requireSupported_0 : List UInt8 := dkwX1_requireSupported_0 ++ []
theorem dksX1_requireSupported_0 : cX1_requireSupported.data.toList.drop 0 = dktX1_requireSupported_0 := by decide +kernel
theorem dX1_requireSupported_0 : decode cX1_requireSupported 0 = .ok (.iload_n 0, 1) := dk_26 (dk_at dksX1_requireSupported_0 0 rfl rfl)
theorem dX1_requireSupported_1 : decode cX1_requireSupported 1 = .ok (.ifCond .ne 11, 3) := dk_154 0 11 (dk_at dksX1_requireSupported_0 1 rfl rfl)
theorem dX1_requireSupported_4 : decode cX1_requireSupported 4 = .ok (.new 13, 3) := dk_187 0 13 (dk_at dksX1_requireSupported_0 4 rfl rfl)
theorem dX1_requireSupported_7 : decode cX1_requireSupported 7 = .ok (.dup, 1) := dk_89 (dk_at dksX1_requireSupported_0 7 rfl rfl)
theorem dX1_requireSupported_8 : decode cX1_requireSupported 8 = .ok (.invokespecial 15, 3) := dk_183 0 15 (dk_at dksX1_requireSupported_0 8 rfl rfl)
theorem dX1_requireSupported_11 : decode cX1_requireSupported 11 = .ok (.athrow, 1) := dk_191 (dk_at dksX1_requireSupported_0 11 rfl rfl)
theorem dX1_requireSupported_12 : decode cX1_requireSupported 12 = .ok (.return_, 1) := dk_177 (dk_at dksX1_requireSupported_0 12 rfl rfl)
abbrev cX1_addOperation : ByteArray := prog_1_method_13_code
def yX1_addOperation : MethodName := ⟨RX1, "addOperation", "(IIII)I"⟩
def dkwX1_addOperation_4 : List UInt8 := [182, 0, 55, 172]
abbrev dktX1_addOperation_4 : List UInt8 := dkwX1_addOperation_4 ++ []
def dkwX1_addOperation_3 : List UInt8 := [184, 0, 59, 25, 6, 187, 0, 110, 89, 28, 29, 21, 4, 183, 0, 112, 182, 0, 67, 87, 25, 6]
abbrev dktX1_addOperation_3 : List UInt8 := dkwX1_addOperation_3 ++ dktX1_addOperation_4
def dkwX1_addOperation_2 : List UInt8 := [25, 5, 192, 0, 71, 180, 0, 107, 58, 6, 25, 6, 182, 0, 55, 6, 162, 0, 7, 4, 167, 0, 4, 3]
abbrev dktX1_addOperation_2 : List UInt8 := dkwX1_addOperation_2 ++ dktX1_addOperation_3
def dkwX1_addOperation_1 : List UInt8 := [182, 0, 103, 87, 25, 5, 193, 0, 71, 184, 0, 92, 21, 4, 4, 16, 20, 184, 0, 47, 184, 0, 51]
abbrev dktX1_addOperation_1 : List UInt8 := dkwX1_addOperation_1 ++ dktX1_addOperation_2
def dkwX1_addOperation_0 : List UInt8 := [42, 27, 182, 0, 88, 58, 5, 42, 28, 182, 0, 103, 87, 42, 29, 2, 160, 0, 7, 28, 167, 0, 4, 29]
abbrev dktX1_addOperation_0 : List UInt8 := dkwX1_addOperation_0 ++ dktX1_addOperation_1
theorem dksX1_addOperation_0 : cX1_addOperation.data.toList.drop 0 = dktX1_addOperation_0 := by decide +kernel
theorem dksX1_addOperation_1 : cX1_addOperation.data.toList.drop 24 = dktX1_addOperation_1 := dk_seg dksX1_addOperation_0 24 rfl rfl
theorem dksX1_addOperation_2 : cX1_addOperation.data.toList.drop 47 = dktX1_addOperation_2 := dk_seg dksX1_addOperation_1 23 rfl rfl
theorem dksX1_addOperation_3 : cX1_addOperation.data.toList.drop 71 = dktX1_addOperation_3 := dk_seg dksX1_addOperation_2 24 rfl rfl
theorem dksX1_addOperation_4 : cX1_addOperation.data.toList.drop 93 = dktX1_addOperation_4 := dk_seg dksX1_addOperation_3 22 rfl rfl
theorem dX1_addOperation_0 : decode cX1_addOperation 0 = .ok (.aload_n 0, 1) := dk_42 (dk_at dksX1_addOperation_0 0 rfl rfl)
theorem dX1_addOperation_1 : decode cX1_addOperation 1 = .ok (.iload_n 1, 1) := dk_27 (dk_at dksX1_addOperation_0 1 rfl rfl)
theorem dX1_addOperation_2 : decode cX1_addOperation 2 = .ok (.invokevirtual 88, 3) := dk_182 0 88 (dk_at dksX1_addOperation_0 2 rfl rfl)
theorem dX1_addOperation_5 : decode cX1_addOperation 5 = .ok (.astore 5, 2) := dk_58 5 (dk_at dksX1_addOperation_0 5 rfl rfl)
theorem dX1_addOperation_7 : decode cX1_addOperation 7 = .ok (.aload_n 0, 1) := dk_42 (dk_at dksX1_addOperation_0 7 rfl rfl)
theorem dX1_addOperation_8 : decode cX1_addOperation 8 = .ok (.iload_n 2, 1) := dk_28 (dk_at dksX1_addOperation_0 8 rfl rfl)
theorem dX1_addOperation_9 : decode cX1_addOperation 9 = .ok (.invokevirtual 103, 3) := dk_182 0 103 (dk_at dksX1_addOperation_0 9 rfl rfl)
theorem dX1_addOperation_12 : decode cX1_addOperation 12 = .ok (.pop, 1) := dk_87 (dk_at dksX1_addOperation_0 12 rfl rfl)
theorem dX1_addOperation_13 : decode cX1_addOperation 13 = .ok (.aload_n 0, 1) := dk_42 (dk_at dksX1_addOperation_0 13 rfl rfl)
theorem dX1_addOperation_14 : decode cX1_addOperation 14 = .ok (.iload_n 3, 1) := dk_29 (dk_at dksX1_addOperation_0 14 rfl rfl)
theorem dX1_addOperation_15 : decode cX1_addOperation 15 = .ok (.iconst (-1), 1) := dk_2 (dk_at dksX1_addOperation_0 15 rfl rfl)
theorem dX1_addOperation_16 : decode cX1_addOperation 16 = .ok (.if_icmp .ne 7, 3) := dk_160 0 7 (dk_at dksX1_addOperation_0 16 rfl rfl)
theorem dX1_addOperation_19 : decode cX1_addOperation 19 = .ok (.iload_n 2, 1) := dk_28 (dk_at dksX1_addOperation_0 19 rfl rfl)
theorem dX1_addOperation_20 : decode cX1_addOperation 20 = .ok (.goto 4, 3) := dk_167 0 4 (dk_at dksX1_addOperation_0 20 rfl rfl)
theorem dX1_addOperation_23 : decode cX1_addOperation 23 = .ok (.iload_n 3, 1) := dk_29 (dk_at dksX1_addOperation_0 23 rfl rfl)
theorem dX1_addOperation_24 : decode cX1_addOperation 24 = .ok (.invokevirtual 103, 3) := dk_182 0 103 (dk_at dksX1_addOperation_1 0 rfl rfl)
theorem dX1_addOperation_27 : decode cX1_addOperation 27 = .ok (.pop, 1) := dk_87 (dk_at dksX1_addOperation_1 3 rfl rfl)
theorem dX1_addOperation_28 : decode cX1_addOperation 28 = .ok (.aload 5, 2) := dk_25 5 (dk_at dksX1_addOperation_1 4 rfl rfl)
theorem dX1_addOperation_30 : decode cX1_addOperation 30 = .ok (.instanceof 71, 3) := dk_193 0 71 (dk_at dksX1_addOperation_1 6 rfl rfl)
theorem dX1_addOperation_33 : decode cX1_addOperation 33 = .ok (.invokestatic 92, 3) := dk_184 0 92 (dk_at dksX1_addOperation_1 9 rfl rfl)
theorem dX1_addOperation_36 : decode cX1_addOperation 36 = .ok (.iload 4, 2) := dk_21 4 (dk_at dksX1_addOperation_1 12 rfl rfl)
theorem dX1_addOperation_38 : decode cX1_addOperation 38 = .ok (.iconst 1, 1) := dk_4 (dk_at dksX1_addOperation_1 14 rfl rfl)
theorem dX1_addOperation_39 : decode cX1_addOperation 39 = .ok (.bipush 20, 2) := dk_16 20 (dk_at dksX1_addOperation_1 15 rfl rfl)
theorem dX1_addOperation_41 : decode cX1_addOperation 41 = .ok (.invokestatic 47, 3) := dk_184 0 47 (dk_at dksX1_addOperation_1 17 rfl rfl)
theorem dX1_addOperation_44 : decode cX1_addOperation 44 = .ok (.invokestatic 51, 3) := dk_184 0 51 (dk_at dksX1_addOperation_1 20 rfl rfl)
theorem dX1_addOperation_47 : decode cX1_addOperation 47 = .ok (.aload 5, 2) := dk_25 5 (dk_at dksX1_addOperation_2 0 rfl rfl)
theorem dX1_addOperation_49 : decode cX1_addOperation 49 = .ok (.checkcast 71, 3) := dk_192 0 71 (dk_at dksX1_addOperation_2 2 rfl rfl)
theorem dX1_addOperation_52 : decode cX1_addOperation 52 = .ok (.getfield 107, 3) := dk_180 0 107 (dk_at dksX1_addOperation_2 5 rfl rfl)
theorem dX1_addOperation_55 : decode cX1_addOperation 55 = .ok (.astore 6, 2) := dk_58 6 (dk_at dksX1_addOperation_2 8 rfl rfl)
theorem dX1_addOperation_57 : decode cX1_addOperation 57 = .ok (.aload 6, 2) := dk_25 6 (dk_at dksX1_addOperation_2 10 rfl rfl)
theorem dX1_addOperation_59 : decode cX1_addOperation 59 = .ok (.invokevirtual 55, 3) := dk_182 0 55 (dk_at dksX1_addOperation_2 12 rfl rfl)
theorem dX1_addOperation_62 : decode cX1_addOperation 62 = .ok (.iconst 3, 1) := dk_6 (dk_at dksX1_addOperation_2 15 rfl rfl)
theorem dX1_addOperation_63 : decode cX1_addOperation 63 = .ok (.if_icmp .ge 7, 3) := dk_162 0 7 (dk_at dksX1_addOperation_2 16 rfl rfl)
theorem dX1_addOperation_66 : decode cX1_addOperation 66 = .ok (.iconst 1, 1) := dk_4 (dk_at dksX1_addOperation_2 19 rfl rfl)
theorem dX1_addOperation_67 : decode cX1_addOperation 67 = .ok (.goto 4, 3) := dk_167 0 4 (dk_at dksX1_addOperation_2 20 rfl rfl)
theorem dX1_addOperation_70 : decode cX1_addOperation 70 = .ok (.iconst 0, 1) := dk_3 (dk_at dksX1_addOperation_2 23 rfl rfl)
theorem dX1_addOperation_71 : decode cX1_addOperation 71 = .ok (.invokestatic 59, 3) := dk_184 0 59 (dk_at dksX1_addOperation_3 0 rfl rfl)
theorem dX1_addOperation_74 : decode cX1_addOperation 74 = .ok (.aload 6, 2) := dk_25 6 (dk_at dksX1_addOperation_3 3 rfl rfl)
theorem dX1_addOperation_76 : decode cX1_addOperation 76 = .ok (.new 110, 3) := dk_187 0 110 (dk_at dksX1_addOperation_3 5 rfl rfl)
theorem dX1_addOperation_79 : decode cX1_addOperation 79 = .ok (.dup, 1) := dk_89 (dk_at dksX1_addOperation_3 8 rfl rfl)
theorem dX1_addOperation_80 : decode cX1_addOperation 80 = .ok (.iload_n 2, 1) := dk_28 (dk_at dksX1_addOperation_3 9 rfl rfl)
theorem dX1_addOperation_81 : decode cX1_addOperation 81 = .ok (.iload_n 3, 1) := dk_29 (dk_at dksX1_addOperation_3 10 rfl rfl)
theorem dX1_addOperation_82 : decode cX1_addOperation 82 = .ok (.iload 4, 2) := dk_21 4 (dk_at dksX1_addOperation_3 11 rfl rfl)
theorem dX1_addOperation_84 : decode cX1_addOperation 84 = .ok (.invokespecial 112, 3) := dk_183 0 112 (dk_at dksX1_addOperation_3 13 rfl rfl)
theorem dX1_addOperation_87 : decode cX1_addOperation 87 = .ok (.invokevirtual 67, 3) := dk_182 0 67 (dk_at dksX1_addOperation_3 16 rfl rfl)
theorem dX1_addOperation_90 : decode cX1_addOperation 90 = .ok (.pop, 1) := dk_87 (dk_at dksX1_addOperation_3 19 rfl rfl)
theorem dX1_addOperation_91 : decode cX1_addOperation 91 = .ok (.aload 6, 2) := dk_25 6 (dk_at dksX1_addOperation_3 20 rfl rfl)
theorem dX1_addOperation_93 : decode cX1_addOperation 93 = .ok (.invokevirtual 55, 3) := dk_182 0 55 (dk_at dksX1_addOperation_4 0 rfl rfl)
theorem dX1_addOperation_96 : decode cX1_addOperation 96 = .ok (.ireturn, 1) := dk_172 (dk_at dksX1_addOperation_4 3 rfl rfl)
abbrev cX1_machine : ByteArray := prog_1_method_11_code
def yX1_machine : MethodName := ⟨RX1, "machine", "(I)LFoundrymark$Machine;"⟩
def dkwX1_machine_1 : List UInt8 := [182, 0, 82, 192, 0, 62, 176]
abbrev dktX1_machine_1 : List UInt8 := dkwX1_machine_1 ++ []
def dkwX1_machine_0 : List UInt8 := [27, 3, 42, 180, 0, 25, 182, 0, 55, 4, 100, 184, 0, 47, 184, 0, 79, 42, 180, 0, 25, 27]
abbrev dktX1_machine_0 : List UInt8 := dkwX1_machine_0 ++ dktX1_machine_1
theorem dksX1_machine_0 : cX1_machine.data.toList.drop 0 = dktX1_machine_0 := by decide +kernel
theorem dksX1_machine_1 : cX1_machine.data.toList.drop 22 = dktX1_machine_1 := dk_seg dksX1_machine_0 22 rfl rfl
theorem dX1_machine_0 : decode cX1_machine 0 = .ok (.iload_n 1, 1) := dk_27 (dk_at dksX1_machine_0 0 rfl rfl)
theorem dX1_machine_1 : decode cX1_machine 1 = .ok (.iconst 0, 1) := dk_3 (dk_at dksX1_machine_0 1 rfl rfl)
theorem dX1_machine_2 : decode cX1_machine 2 = .ok (.aload_n 0, 1) := dk_42 (dk_at dksX1_machine_0 2 rfl rfl)
theorem dX1_machine_3 : decode cX1_machine 3 = .ok (.getfield 25, 3) := dk_180 0 25 (dk_at dksX1_machine_0 3 rfl rfl)
theorem dX1_machine_6 : decode cX1_machine 6 = .ok (.invokevirtual 55, 3) := dk_182 0 55 (dk_at dksX1_machine_0 6 rfl rfl)
theorem dX1_machine_9 : decode cX1_machine 9 = .ok (.iconst 1, 1) := dk_4 (dk_at dksX1_machine_0 9 rfl rfl)
theorem dX1_machine_10 : decode cX1_machine 10 = .ok (.isub, 1) := dk_100 (dk_at dksX1_machine_0 10 rfl rfl)
theorem dX1_machine_11 : decode cX1_machine 11 = .ok (.invokestatic 47, 3) := dk_184 0 47 (dk_at dksX1_machine_0 11 rfl rfl)
theorem dX1_machine_14 : decode cX1_machine 14 = .ok (.invokestatic 79, 3) := dk_184 0 79 (dk_at dksX1_machine_0 14 rfl rfl)
theorem dX1_machine_17 : decode cX1_machine 17 = .ok (.aload_n 0, 1) := dk_42 (dk_at dksX1_machine_0 17 rfl rfl)
theorem dX1_machine_18 : decode cX1_machine 18 = .ok (.getfield 25, 3) := dk_180 0 25 (dk_at dksX1_machine_0 18 rfl rfl)
theorem dX1_machine_21 : decode cX1_machine 21 = .ok (.iload_n 1, 1) := dk_27 (dk_at dksX1_machine_0 21 rfl rfl)
theorem dX1_machine_22 : decode cX1_machine 22 = .ok (.invokevirtual 82, 3) := dk_182 0 82 (dk_at dksX1_machine_1 0 rfl rfl)
theorem dX1_machine_25 : decode cX1_machine 25 = .ok (.checkcast 62, 3) := dk_192 0 62 (dk_at dksX1_machine_1 3 rfl rfl)
theorem dX1_machine_28 : decode cX1_machine 28 = .ok (.areturn, 1) := dk_176 (dk_at dksX1_machine_1 6 rfl rfl)
abbrev cX1_receive : ByteArray := prog_1_method_16_code
def yX1_receive : MethodName := ⟨RX1, "receive", "(IIIII)I"⟩
def dkwX1_receive_6 : List UInt8 := [182, 0, 129, 181, 0, 133, 25, 9, 180, 0, 137, 172]
abbrev dktX1_receive_6 : List UInt8 := dkwX1_receive_6 ++ []
def dkwX1_receive_5 : List UInt8 := [187, 0, 22, 89, 183, 0, 24, 182, 0, 126, 58, 9, 25, 9, 42, 180, 0, 42, 21, 4, 50, 21, 5]
abbrev dktX1_receive_5 : List UInt8 := dkwX1_receive_5 ++ dktX1_receive_6
def dkwX1_receive_4 : List UInt8 := [133, 29, 133, 105, 55, 7, 42, 89, 180, 0, 122, 22, 7, 97, 181, 0, 122, 42, 25, 6, 28, 22, 7]
abbrev dktX1_receive_4 : List UInt8 := dkwX1_receive_4 ++ dktX1_receive_5
def dkwX1_receive_3 : List UInt8 := [16, 60, 162, 0, 7, 4, 167, 0, 4, 3, 184, 0, 59, 42, 89, 180, 0, 118, 4, 96, 181, 0, 118, 28]
abbrev dktX1_receive_3 : List UInt8 := dkwX1_receive_3 ++ dktX1_receive_4
def dkwX1_receive_2 : List UInt8 := [21, 5, 3, 16, 20, 184, 0, 47, 153, 0, 7, 4, 167, 0, 4, 3, 184, 0, 51, 42, 180, 0, 118]
abbrev dktX1_receive_2 : List UInt8 := dkwX1_receive_2 ++ dktX1_receive_3
def dkwX1_receive_1 : List UInt8 := [153, 0, 39, 29, 3, 17, 3, 231, 184, 0, 47, 153, 0, 28, 21, 4, 3, 6, 184, 0, 47, 153, 0, 18]
abbrev dktX1_receive_1 : List UInt8 := dkwX1_receive_1 ++ dktX1_receive_2
def dkwX1_receive_0 : List UInt8 := [42, 27, 182, 0, 88, 58, 6, 25, 6, 193, 0, 76, 184, 0, 92, 28, 4, 17, 1, 244, 184, 0, 47]
abbrev dktX1_receive_0 : List UInt8 := dkwX1_receive_0 ++ dktX1_receive_1
theorem dksX1_receive_0 : cX1_receive.data.toList.drop 0 = dktX1_receive_0 := by decide +kernel
theorem dksX1_receive_1 : cX1_receive.data.toList.drop 23 = dktX1_receive_1 := dk_seg dksX1_receive_0 23 rfl rfl
theorem dksX1_receive_2 : cX1_receive.data.toList.drop 47 = dktX1_receive_2 := dk_seg dksX1_receive_1 24 rfl rfl
theorem dksX1_receive_3 : cX1_receive.data.toList.drop 70 = dktX1_receive_3 := dk_seg dksX1_receive_2 23 rfl rfl
theorem dksX1_receive_4 : cX1_receive.data.toList.drop 94 = dktX1_receive_4 := dk_seg dksX1_receive_3 24 rfl rfl
theorem dksX1_receive_5 : cX1_receive.data.toList.drop 117 = dktX1_receive_5 := dk_seg dksX1_receive_4 23 rfl rfl
theorem dksX1_receive_6 : cX1_receive.data.toList.drop 140 = dktX1_receive_6 := dk_seg dksX1_receive_5 23 rfl rfl
theorem dX1_receive_0 : decode cX1_receive 0 = .ok (.aload_n 0, 1) := dk_42 (dk_at dksX1_receive_0 0 rfl rfl)
theorem dX1_receive_1 : decode cX1_receive 1 = .ok (.iload_n 1, 1) := dk_27 (dk_at dksX1_receive_0 1 rfl rfl)
theorem dX1_receive_2 : decode cX1_receive 2 = .ok (.invokevirtual 88, 3) := dk_182 0 88 (dk_at dksX1_receive_0 2 rfl rfl)
theorem dX1_receive_5 : decode cX1_receive 5 = .ok (.astore 6, 2) := dk_58 6 (dk_at dksX1_receive_0 5 rfl rfl)
theorem dX1_receive_7 : decode cX1_receive 7 = .ok (.aload 6, 2) := dk_25 6 (dk_at dksX1_receive_0 7 rfl rfl)
theorem dX1_receive_9 : decode cX1_receive 9 = .ok (.instanceof 76, 3) := dk_193 0 76 (dk_at dksX1_receive_0 9 rfl rfl)
theorem dX1_receive_12 : decode cX1_receive 12 = .ok (.invokestatic 92, 3) := dk_184 0 92 (dk_at dksX1_receive_0 12 rfl rfl)
theorem dX1_receive_15 : decode cX1_receive 15 = .ok (.iload_n 2, 1) := dk_28 (dk_at dksX1_receive_0 15 rfl rfl)
theorem dX1_receive_16 : decode cX1_receive 16 = .ok (.iconst 1, 1) := dk_4 (dk_at dksX1_receive_0 16 rfl rfl)
theorem dX1_receive_17 : decode cX1_receive 17 = .ok (.sipush 500, 3) := dk_17 1 244 (dk_at dksX1_receive_0 17 rfl rfl)
theorem dX1_receive_20 : decode cX1_receive 20 = .ok (.invokestatic 47, 3) := dk_184 0 47 (dk_at dksX1_receive_0 20 rfl rfl)
theorem dX1_receive_23 : decode cX1_receive 23 = .ok (.ifCond .eq 39, 3) := dk_153 0 39 (dk_at dksX1_receive_1 0 rfl rfl)
theorem dX1_receive_26 : decode cX1_receive 26 = .ok (.iload_n 3, 1) := dk_29 (dk_at dksX1_receive_1 3 rfl rfl)
theorem dX1_receive_27 : decode cX1_receive 27 = .ok (.iconst 0, 1) := dk_3 (dk_at dksX1_receive_1 4 rfl rfl)
theorem dX1_receive_28 : decode cX1_receive 28 = .ok (.sipush 999, 3) := dk_17 3 231 (dk_at dksX1_receive_1 5 rfl rfl)
theorem dX1_receive_31 : decode cX1_receive 31 = .ok (.invokestatic 47, 3) := dk_184 0 47 (dk_at dksX1_receive_1 8 rfl rfl)
theorem dX1_receive_34 : decode cX1_receive 34 = .ok (.ifCond .eq 28, 3) := dk_153 0 28 (dk_at dksX1_receive_1 11 rfl rfl)
theorem dX1_receive_37 : decode cX1_receive 37 = .ok (.iload 4, 2) := dk_21 4 (dk_at dksX1_receive_1 14 rfl rfl)
theorem dX1_receive_39 : decode cX1_receive 39 = .ok (.iconst 0, 1) := dk_3 (dk_at dksX1_receive_1 16 rfl rfl)
theorem dX1_receive_40 : decode cX1_receive 40 = .ok (.iconst 3, 1) := dk_6 (dk_at dksX1_receive_1 17 rfl rfl)
theorem dX1_receive_41 : decode cX1_receive 41 = .ok (.invokestatic 47, 3) := dk_184 0 47 (dk_at dksX1_receive_1 18 rfl rfl)
theorem dX1_receive_44 : decode cX1_receive 44 = .ok (.ifCond .eq 18, 3) := dk_153 0 18 (dk_at dksX1_receive_1 21 rfl rfl)
theorem dX1_receive_47 : decode cX1_receive 47 = .ok (.iload 5, 2) := dk_21 5 (dk_at dksX1_receive_2 0 rfl rfl)
theorem dX1_receive_49 : decode cX1_receive 49 = .ok (.iconst 0, 1) := dk_3 (dk_at dksX1_receive_2 2 rfl rfl)
theorem dX1_receive_50 : decode cX1_receive 50 = .ok (.bipush 20, 2) := dk_16 20 (dk_at dksX1_receive_2 3 rfl rfl)
theorem dX1_receive_52 : decode cX1_receive 52 = .ok (.invokestatic 47, 3) := dk_184 0 47 (dk_at dksX1_receive_2 5 rfl rfl)
theorem dX1_receive_55 : decode cX1_receive 55 = .ok (.ifCond .eq 7, 3) := dk_153 0 7 (dk_at dksX1_receive_2 8 rfl rfl)
theorem dX1_receive_58 : decode cX1_receive 58 = .ok (.iconst 1, 1) := dk_4 (dk_at dksX1_receive_2 11 rfl rfl)
theorem dX1_receive_59 : decode cX1_receive 59 = .ok (.goto 4, 3) := dk_167 0 4 (dk_at dksX1_receive_2 12 rfl rfl)
theorem dX1_receive_62 : decode cX1_receive 62 = .ok (.iconst 0, 1) := dk_3 (dk_at dksX1_receive_2 15 rfl rfl)
theorem dX1_receive_63 : decode cX1_receive 63 = .ok (.invokestatic 51, 3) := dk_184 0 51 (dk_at dksX1_receive_2 16 rfl rfl)
theorem dX1_receive_66 : decode cX1_receive 66 = .ok (.aload_n 0, 1) := dk_42 (dk_at dksX1_receive_2 19 rfl rfl)
theorem dX1_receive_67 : decode cX1_receive 67 = .ok (.getfield 118, 3) := dk_180 0 118 (dk_at dksX1_receive_2 20 rfl rfl)
theorem dX1_receive_70 : decode cX1_receive 70 = .ok (.bipush 60, 2) := dk_16 60 (dk_at dksX1_receive_3 0 rfl rfl)
theorem dX1_receive_72 : decode cX1_receive 72 = .ok (.if_icmp .ge 7, 3) := dk_162 0 7 (dk_at dksX1_receive_3 2 rfl rfl)
theorem dX1_receive_75 : decode cX1_receive 75 = .ok (.iconst 1, 1) := dk_4 (dk_at dksX1_receive_3 5 rfl rfl)
theorem dX1_receive_76 : decode cX1_receive 76 = .ok (.goto 4, 3) := dk_167 0 4 (dk_at dksX1_receive_3 6 rfl rfl)
theorem dX1_receive_79 : decode cX1_receive 79 = .ok (.iconst 0, 1) := dk_3 (dk_at dksX1_receive_3 9 rfl rfl)
theorem dX1_receive_80 : decode cX1_receive 80 = .ok (.invokestatic 59, 3) := dk_184 0 59 (dk_at dksX1_receive_3 10 rfl rfl)
theorem dX1_receive_83 : decode cX1_receive 83 = .ok (.aload_n 0, 1) := dk_42 (dk_at dksX1_receive_3 13 rfl rfl)
theorem dX1_receive_84 : decode cX1_receive 84 = .ok (.dup, 1) := dk_89 (dk_at dksX1_receive_3 14 rfl rfl)
theorem dX1_receive_85 : decode cX1_receive 85 = .ok (.getfield 118, 3) := dk_180 0 118 (dk_at dksX1_receive_3 15 rfl rfl)
theorem dX1_receive_88 : decode cX1_receive 88 = .ok (.iconst 1, 1) := dk_4 (dk_at dksX1_receive_3 18 rfl rfl)
theorem dX1_receive_89 : decode cX1_receive 89 = .ok (.iadd, 1) := dk_96 (dk_at dksX1_receive_3 19 rfl rfl)
theorem dX1_receive_90 : decode cX1_receive 90 = .ok (.putfield 118, 3) := dk_181 0 118 (dk_at dksX1_receive_3 20 rfl rfl)
theorem dX1_receive_93 : decode cX1_receive 93 = .ok (.iload_n 2, 1) := dk_28 (dk_at dksX1_receive_3 23 rfl rfl)
theorem dX1_receive_94 : decode cX1_receive 94 = .ok (.i2l, 1) := dk_133 (dk_at dksX1_receive_4 0 rfl rfl)
theorem dX1_receive_95 : decode cX1_receive 95 = .ok (.iload_n 3, 1) := dk_29 (dk_at dksX1_receive_4 1 rfl rfl)
theorem dX1_receive_96 : decode cX1_receive 96 = .ok (.i2l, 1) := dk_133 (dk_at dksX1_receive_4 2 rfl rfl)
theorem dX1_receive_97 : decode cX1_receive 97 = .ok (.lmul, 1) := dk_105 (dk_at dksX1_receive_4 3 rfl rfl)
theorem dX1_receive_98 : decode cX1_receive 98 = .ok (.lstore 7, 2) := dk_55 7 (dk_at dksX1_receive_4 4 rfl rfl)
theorem dX1_receive_100 : decode cX1_receive 100 = .ok (.aload_n 0, 1) := dk_42 (dk_at dksX1_receive_4 6 rfl rfl)
theorem dX1_receive_101 : decode cX1_receive 101 = .ok (.dup, 1) := dk_89 (dk_at dksX1_receive_4 7 rfl rfl)
theorem dX1_receive_102 : decode cX1_receive 102 = .ok (.getfield 122, 3) := dk_180 0 122 (dk_at dksX1_receive_4 8 rfl rfl)
theorem dX1_receive_105 : decode cX1_receive 105 = .ok (.lload 7, 2) := dk_22 7 (dk_at dksX1_receive_4 11 rfl rfl)
theorem dX1_receive_107 : decode cX1_receive 107 = .ok (.ladd, 1) := dk_97 (dk_at dksX1_receive_4 13 rfl rfl)
theorem dX1_receive_108 : decode cX1_receive 108 = .ok (.putfield 122, 3) := dk_181 0 122 (dk_at dksX1_receive_4 14 rfl rfl)
theorem dX1_receive_111 : decode cX1_receive 111 = .ok (.aload_n 0, 1) := dk_42 (dk_at dksX1_receive_4 17 rfl rfl)
theorem dX1_receive_112 : decode cX1_receive 112 = .ok (.aload 6, 2) := dk_25 6 (dk_at dksX1_receive_4 18 rfl rfl)
theorem dX1_receive_114 : decode cX1_receive 114 = .ok (.iload_n 2, 1) := dk_28 (dk_at dksX1_receive_4 20 rfl rfl)
theorem dX1_receive_115 : decode cX1_receive 115 = .ok (.lload 7, 2) := dk_22 7 (dk_at dksX1_receive_4 21 rfl rfl)
theorem dX1_receive_117 : decode cX1_receive 117 = .ok (.new 22, 3) := dk_187 0 22 (dk_at dksX1_receive_5 0 rfl rfl)
theorem dX1_receive_120 : decode cX1_receive 120 = .ok (.dup, 1) := dk_89 (dk_at dksX1_receive_5 3 rfl rfl)
theorem dX1_receive_121 : decode cX1_receive 121 = .ok (.invokespecial 24, 3) := dk_183 0 24 (dk_at dksX1_receive_5 4 rfl rfl)
theorem dX1_receive_124 : decode cX1_receive 124 = .ok (.invokevirtual 126, 3) := dk_182 0 126 (dk_at dksX1_receive_5 7 rfl rfl)
theorem dX1_receive_127 : decode cX1_receive 127 = .ok (.astore 9, 2) := dk_58 9 (dk_at dksX1_receive_5 10 rfl rfl)
theorem dX1_receive_129 : decode cX1_receive 129 = .ok (.aload 9, 2) := dk_25 9 (dk_at dksX1_receive_5 12 rfl rfl)
theorem dX1_receive_131 : decode cX1_receive 131 = .ok (.aload_n 0, 1) := dk_42 (dk_at dksX1_receive_5 14 rfl rfl)
theorem dX1_receive_132 : decode cX1_receive 132 = .ok (.getfield 42, 3) := dk_180 0 42 (dk_at dksX1_receive_5 15 rfl rfl)
theorem dX1_receive_135 : decode cX1_receive 135 = .ok (.iload 4, 2) := dk_21 4 (dk_at dksX1_receive_5 18 rfl rfl)
theorem dX1_receive_137 : decode cX1_receive 137 = .ok (.aaload, 1) := dk_50 (dk_at dksX1_receive_5 20 rfl rfl)
theorem dX1_receive_138 : decode cX1_receive 138 = .ok (.iload 5, 2) := dk_21 5 (dk_at dksX1_receive_5 21 rfl rfl)
theorem dX1_receive_140 : decode cX1_receive 140 = .ok (.invokevirtual 129, 3) := dk_182 0 129 (dk_at dksX1_receive_6 0 rfl rfl)
theorem dX1_receive_143 : decode cX1_receive 143 = .ok (.putfield 133, 3) := dk_181 0 133 (dk_at dksX1_receive_6 3 rfl rfl)
theorem dX1_receive_146 : decode cX1_receive 146 = .ok (.aload 9, 2) := dk_25 9 (dk_at dksX1_receive_6 6 rfl rfl)
theorem dX1_receive_148 : decode cX1_receive 148 = .ok (.getfield 137, 3) := dk_180 0 137 (dk_at dksX1_receive_6 8 rfl rfl)
theorem dX1_receive_151 : decode cX1_receive 151 = .ok (.ireturn, 1) := dk_172 (dk_at dksX1_receive_6 11 rfl rfl)
abbrev cX1_add : ByteArray := prog_1_method_15_code
def yX1_add : MethodName := ⟨RX1, "add", "(LFoundrymark$Part;IJLjava/util/ArrayList;)LFoundrymark$Lot;"⟩
def dkwX1_add_1 : List UInt8 := [180, 0, 34, 25, 6, 182, 0, 67, 87, 25, 6, 176]
abbrev dktX1_add_1 : List UInt8 := dkwX1_add_1 ++ []
def dkwX1_add_0 : List UInt8 := [187, 0, 113, 89, 42, 180, 0, 34, 182, 0, 55, 43, 28, 33, 25, 5, 183, 0, 115, 58, 6, 42]
abbrev dktX1_add_0 : List UInt8 := dkwX1_add_0 ++ dktX1_add_1
theorem dksX1_add_0 : cX1_add.data.toList.drop 0 = dktX1_add_0 := by decide +kernel
theorem dksX1_add_1 : cX1_add.data.toList.drop 22 = dktX1_add_1 := dk_seg dksX1_add_0 22 rfl rfl
theorem dX1_add_0 : decode cX1_add 0 = .ok (.new 113, 3) := dk_187 0 113 (dk_at dksX1_add_0 0 rfl rfl)
theorem dX1_add_3 : decode cX1_add 3 = .ok (.dup, 1) := dk_89 (dk_at dksX1_add_0 3 rfl rfl)
theorem dX1_add_4 : decode cX1_add 4 = .ok (.aload_n 0, 1) := dk_42 (dk_at dksX1_add_0 4 rfl rfl)
theorem dX1_add_5 : decode cX1_add 5 = .ok (.getfield 34, 3) := dk_180 0 34 (dk_at dksX1_add_0 5 rfl rfl)
theorem dX1_add_8 : decode cX1_add 8 = .ok (.invokevirtual 55, 3) := dk_182 0 55 (dk_at dksX1_add_0 8 rfl rfl)
theorem dX1_add_11 : decode cX1_add 11 = .ok (.aload_n 1, 1) := dk_43 (dk_at dksX1_add_0 11 rfl rfl)
theorem dX1_add_12 : decode cX1_add 12 = .ok (.iload_n 2, 1) := dk_28 (dk_at dksX1_add_0 12 rfl rfl)
theorem dX1_add_13 : decode cX1_add 13 = .ok (.lload_n 3, 1) := dk_33 (dk_at dksX1_add_0 13 rfl rfl)
theorem dX1_add_14 : decode cX1_add 14 = .ok (.aload 5, 2) := dk_25 5 (dk_at dksX1_add_0 14 rfl rfl)
theorem dX1_add_16 : decode cX1_add 16 = .ok (.invokespecial 115, 3) := dk_183 0 115 (dk_at dksX1_add_0 16 rfl rfl)
theorem dX1_add_19 : decode cX1_add 19 = .ok (.astore 6, 2) := dk_58 6 (dk_at dksX1_add_0 19 rfl rfl)
theorem dX1_add_21 : decode cX1_add 21 = .ok (.aload_n 0, 1) := dk_42 (dk_at dksX1_add_0 21 rfl rfl)
theorem dX1_add_22 : decode cX1_add 22 = .ok (.getfield 34, 3) := dk_180 0 34 (dk_at dksX1_add_1 0 rfl rfl)
theorem dX1_add_25 : decode cX1_add 25 = .ok (.aload 6, 2) := dk_25 6 (dk_at dksX1_add_1 3 rfl rfl)
theorem dX1_add_27 : decode cX1_add 27 = .ok (.invokevirtual 67, 3) := dk_182 0 67 (dk_at dksX1_add_1 5 rfl rfl)
theorem dX1_add_30 : decode cX1_add 30 = .ok (.pop, 1) := dk_87 (dk_at dksX1_add_1 8 rfl rfl)
theorem dX1_add_31 : decode cX1_add 31 = .ok (.aload 6, 2) := dk_25 6 (dk_at dksX1_add_1 9 rfl rfl)
theorem dX1_add_33 : decode cX1_add 33 = .ok (.areturn, 1) := dk_176 (dk_at dksX1_add_1 11 rfl rfl)
abbrev cX1_rule : ByteArray := prog_1_method_17_code
def yX1_rule : MethodName := ⟨RX1, "rule", "(I)C"⟩
def dkwX1_rule_0 : List UInt8 := [27, 3, 6, 184, 0, 47, 184, 0, 79, 42, 180, 0, 42, 27, 50, 180, 0, 140, 180, 0, 144, 172]
abbrev dktX1_rule_0 : List UInt8 := dkwX1_rule_0 ++ []
theorem dksX1_rule_0 : cX1_rule.data.toList.drop 0 = dktX1_rule_0 := by decide +kernel
theorem dX1_rule_0 : decode cX1_rule 0 = .ok (.iload_n 1, 1) := dk_27 (dk_at dksX1_rule_0 0 rfl rfl)
theorem dX1_rule_1 : decode cX1_rule 1 = .ok (.iconst 0, 1) := dk_3 (dk_at dksX1_rule_0 1 rfl rfl)
theorem dX1_rule_2 : decode cX1_rule 2 = .ok (.iconst 3, 1) := dk_6 (dk_at dksX1_rule_0 2 rfl rfl)
theorem dX1_rule_3 : decode cX1_rule 3 = .ok (.invokestatic 47, 3) := dk_184 0 47 (dk_at dksX1_rule_0 3 rfl rfl)
theorem dX1_rule_6 : decode cX1_rule 6 = .ok (.invokestatic 79, 3) := dk_184 0 79 (dk_at dksX1_rule_0 6 rfl rfl)
theorem dX1_rule_9 : decode cX1_rule 9 = .ok (.aload_n 0, 1) := dk_42 (dk_at dksX1_rule_0 9 rfl rfl)
theorem dX1_rule_10 : decode cX1_rule 10 = .ok (.getfield 42, 3) := dk_180 0 42 (dk_at dksX1_rule_0 10 rfl rfl)
theorem dX1_rule_13 : decode cX1_rule 13 = .ok (.iload_n 1, 1) := dk_27 (dk_at dksX1_rule_0 13 rfl rfl)
theorem dX1_rule_14 : decode cX1_rule 14 = .ok (.aaload, 1) := dk_50 (dk_at dksX1_rule_0 14 rfl rfl)
theorem dX1_rule_15 : decode cX1_rule 15 = .ok (.getfield 140, 3) := dk_180 0 140 (dk_at dksX1_rule_0 15 rfl rfl)
theorem dX1_rule_18 : decode cX1_rule 18 = .ok (.getfield 144, 3) := dk_180 0 144 (dk_at dksX1_rule_0 18 rfl rfl)
theorem dX1_rule_21 : decode cX1_rule 21 = .ok (.ireturn, 1) := dk_172 (dk_at dksX1_rule_0 21 rfl rfl)
abbrev cX1_hold : ByteArray := prog_1_method_20_code
def yX1_hold : MethodName := ⟨RX1, "hold", "(IZ)I"⟩
def dkwX1_hold_0 : List UInt8 := [42, 27, 182, 0, 203, 28, 181, 0, 133, 42, 182, 0, 206, 172]
abbrev dktX1_hold_0 : List UInt8 := dkwX1_hold_0 ++ []
theorem dksX1_hold_0 : cX1_hold.data.toList.drop 0 = dktX1_hold_0 := by decide +kernel
theorem dX1_hold_0 : decode cX1_hold 0 = .ok (.aload_n 0, 1) := dk_42 (dk_at dksX1_hold_0 0 rfl rfl)
theorem dX1_hold_1 : decode cX1_hold 1 = .ok (.iload_n 1, 1) := dk_27 (dk_at dksX1_hold_0 1 rfl rfl)
theorem dX1_hold_2 : decode cX1_hold 2 = .ok (.invokevirtual 203, 3) := dk_182 0 203 (dk_at dksX1_hold_0 2 rfl rfl)
theorem dX1_hold_5 : decode cX1_hold 5 = .ok (.iload_n 2, 1) := dk_28 (dk_at dksX1_hold_0 5 rfl rfl)
theorem dX1_hold_6 : decode cX1_hold 6 = .ok (.putfield 133, 3) := dk_181 0 133 (dk_at dksX1_hold_0 6 rfl rfl)
theorem dX1_hold_9 : decode cX1_hold 9 = .ok (.aload_n 0, 1) := dk_42 (dk_at dksX1_hold_0 9 rfl rfl)
theorem dX1_hold_10 : decode cX1_hold 10 = .ok (.invokevirtual 206, 3) := dk_182 0 206 (dk_at dksX1_hold_0 10 rfl rfl)
theorem dX1_hold_13 : decode cX1_hold 13 = .ok (.ireturn, 1) := dk_172 (dk_at dksX1_hold_0 13 rfl rfl)
abbrev cX1_losePromises : ByteArray := prog_1_method_19_code
def yX1_losePromises : MethodName := ⟨RX1, "losePromises", "()I"⟩
def dkwX1_losePromises_5 : List UInt8 := [181, 0, 184, 132, 1, 1, 167, 255, 147, 27, 172]
abbrev dktX1_losePromises_5 : List UInt8 := dkwX1_losePromises_5 ++ []
def dkwX1_losePromises_4 : List UInt8 := [4, 167, 0, 4, 3, 54, 4, 167, 255, 201, 21, 4, 153, 0, 18, 42, 45, 182, 0, 196, 45, 178, 0, 200]
abbrev dktX1_losePromises_4 : List UInt8 := dkwX1_losePromises_4 ++ dktX1_losePromises_5
def dkwX1_losePromises_3 : List UInt8 := [154, 0, 24, 45, 180, 0, 184, 178, 0, 188, 166, 0, 18, 25, 6, 180, 0, 171, 182, 0, 193, 153, 0, 7]
abbrev dktX1_losePromises_3 : List UInt8 := dkwX1_losePromises_3 ++ dktX1_losePromises_4
def dkwX1_losePromises_2 : List UInt8 := [185, 0, 159, 1, 0, 153, 0, 51, 25, 5, 185, 0, 165, 1, 0, 192, 0, 169, 58, 6, 21, 4]
abbrev dktX1_losePromises_2 : List UInt8 := dkwX1_losePromises_2 ++ dktX1_losePromises_3
def dkwX1_losePromises_1 : List UInt8 := [185, 0, 165, 1, 0, 192, 0, 151, 78, 3, 54, 4, 45, 180, 0, 150, 182, 0, 155, 58, 5, 25, 5]
abbrev dktX1_losePromises_1 : List UInt8 := dkwX1_losePromises_1 ++ dktX1_losePromises_2
def dkwX1_losePromises_0 : List UInt8 := [3, 60, 42, 180, 0, 37, 182, 0, 155, 77, 44, 185, 0, 159, 1, 0, 153, 0, 106, 44]
abbrev dktX1_losePromises_0 : List UInt8 := dkwX1_losePromises_0 ++ dktX1_losePromises_1
theorem dksX1_losePromises_0 : cX1_losePromises.data.toList.drop 0 = dktX1_losePromises_0 := by decide +kernel
theorem dksX1_losePromises_1 : cX1_losePromises.data.toList.drop 20 = dktX1_losePromises_1 := dk_seg dksX1_losePromises_0 20 rfl rfl
theorem dksX1_losePromises_2 : cX1_losePromises.data.toList.drop 43 = dktX1_losePromises_2 := dk_seg dksX1_losePromises_1 23 rfl rfl
theorem dksX1_losePromises_3 : cX1_losePromises.data.toList.drop 65 = dktX1_losePromises_3 := dk_seg dksX1_losePromises_2 22 rfl rfl
theorem dksX1_losePromises_4 : cX1_losePromises.data.toList.drop 89 = dktX1_losePromises_4 := dk_seg dksX1_losePromises_3 24 rfl rfl
theorem dksX1_losePromises_5 : cX1_losePromises.data.toList.drop 113 = dktX1_losePromises_5 := dk_seg dksX1_losePromises_4 24 rfl rfl
theorem dX1_losePromises_0 : decode cX1_losePromises 0 = .ok (.iconst 0, 1) := dk_3 (dk_at dksX1_losePromises_0 0 rfl rfl)
theorem dX1_losePromises_1 : decode cX1_losePromises 1 = .ok (.istore_n 1, 1) := dk_60 (dk_at dksX1_losePromises_0 1 rfl rfl)
theorem dX1_losePromises_2 : decode cX1_losePromises 2 = .ok (.aload_n 0, 1) := dk_42 (dk_at dksX1_losePromises_0 2 rfl rfl)
theorem dX1_losePromises_3 : decode cX1_losePromises 3 = .ok (.getfield 37, 3) := dk_180 0 37 (dk_at dksX1_losePromises_0 3 rfl rfl)
theorem dX1_losePromises_6 : decode cX1_losePromises 6 = .ok (.invokevirtual 155, 3) := dk_182 0 155 (dk_at dksX1_losePromises_0 6 rfl rfl)
theorem dX1_losePromises_9 : decode cX1_losePromises 9 = .ok (.astore_n 2, 1) := dk_77 (dk_at dksX1_losePromises_0 9 rfl rfl)
theorem dX1_losePromises_10 : decode cX1_losePromises 10 = .ok (.aload_n 2, 1) := dk_44 (dk_at dksX1_losePromises_0 10 rfl rfl)
theorem dX1_losePromises_11 : decode cX1_losePromises 11 = .ok (.invokeinterface 159 1, 5) := by decide +kernel
theorem dX1_losePromises_16 : decode cX1_losePromises 16 = .ok (.ifCond .eq 106, 3) := dk_153 0 106 (dk_at dksX1_losePromises_0 16 rfl rfl)
theorem dX1_losePromises_19 : decode cX1_losePromises 19 = .ok (.aload_n 2, 1) := dk_44 (dk_at dksX1_losePromises_0 19 rfl rfl)
theorem dX1_losePromises_20 : decode cX1_losePromises 20 = .ok (.invokeinterface 165 1, 5) := by decide +kernel
theorem dX1_losePromises_25 : decode cX1_losePromises 25 = .ok (.checkcast 151, 3) := dk_192 0 151 (dk_at dksX1_losePromises_1 5 rfl rfl)
theorem dX1_losePromises_28 : decode cX1_losePromises 28 = .ok (.astore_n 3, 1) := dk_78 (dk_at dksX1_losePromises_1 8 rfl rfl)
theorem dX1_losePromises_29 : decode cX1_losePromises 29 = .ok (.iconst 0, 1) := dk_3 (dk_at dksX1_losePromises_1 9 rfl rfl)
theorem dX1_losePromises_30 : decode cX1_losePromises 30 = .ok (.istore 4, 2) := dk_54 4 (dk_at dksX1_losePromises_1 10 rfl rfl)
theorem dX1_losePromises_32 : decode cX1_losePromises 32 = .ok (.aload_n 3, 1) := dk_45 (dk_at dksX1_losePromises_1 12 rfl rfl)
theorem dX1_losePromises_33 : decode cX1_losePromises 33 = .ok (.getfield 150, 3) := dk_180 0 150 (dk_at dksX1_losePromises_1 13 rfl rfl)
theorem dX1_losePromises_36 : decode cX1_losePromises 36 = .ok (.invokevirtual 155, 3) := dk_182 0 155 (dk_at dksX1_losePromises_1 16 rfl rfl)
theorem dX1_losePromises_39 : decode cX1_losePromises 39 = .ok (.astore 5, 2) := dk_58 5 (dk_at dksX1_losePromises_1 19 rfl rfl)
theorem dX1_losePromises_41 : decode cX1_losePromises 41 = .ok (.aload 5, 2) := dk_25 5 (dk_at dksX1_losePromises_1 21 rfl rfl)
theorem dX1_losePromises_43 : decode cX1_losePromises 43 = .ok (.invokeinterface 159 1, 5) := by decide +kernel
theorem dX1_losePromises_48 : decode cX1_losePromises 48 = .ok (.ifCond .eq 51, 3) := dk_153 0 51 (dk_at dksX1_losePromises_2 5 rfl rfl)
theorem dX1_losePromises_51 : decode cX1_losePromises 51 = .ok (.aload 5, 2) := dk_25 5 (dk_at dksX1_losePromises_2 8 rfl rfl)
theorem dX1_losePromises_53 : decode cX1_losePromises 53 = .ok (.invokeinterface 165 1, 5) := by decide +kernel
theorem dX1_losePromises_58 : decode cX1_losePromises 58 = .ok (.checkcast 169, 3) := dk_192 0 169 (dk_at dksX1_losePromises_2 15 rfl rfl)
theorem dX1_losePromises_61 : decode cX1_losePromises 61 = .ok (.astore 6, 2) := dk_58 6 (dk_at dksX1_losePromises_2 18 rfl rfl)
theorem dX1_losePromises_63 : decode cX1_losePromises 63 = .ok (.iload 4, 2) := dk_21 4 (dk_at dksX1_losePromises_2 20 rfl rfl)
theorem dX1_losePromises_65 : decode cX1_losePromises 65 = .ok (.ifCond .ne 24, 3) := dk_154 0 24 (dk_at dksX1_losePromises_3 0 rfl rfl)
theorem dX1_losePromises_68 : decode cX1_losePromises 68 = .ok (.aload_n 3, 1) := dk_45 (dk_at dksX1_losePromises_3 3 rfl rfl)
theorem dX1_losePromises_69 : decode cX1_losePromises 69 = .ok (.getfield 184, 3) := dk_180 0 184 (dk_at dksX1_losePromises_3 4 rfl rfl)
theorem dX1_losePromises_72 : decode cX1_losePromises 72 = .ok (.getstatic 188, 3) := dk_178 0 188 (dk_at dksX1_losePromises_3 7 rfl rfl)
theorem dX1_losePromises_75 : decode cX1_losePromises 75 = .ok (.if_acmp .ne 18, 3) := dk_166 0 18 (dk_at dksX1_losePromises_3 10 rfl rfl)
theorem dX1_losePromises_78 : decode cX1_losePromises 78 = .ok (.aload 6, 2) := dk_25 6 (dk_at dksX1_losePromises_3 13 rfl rfl)
theorem dX1_losePromises_80 : decode cX1_losePromises 80 = .ok (.getfield 171, 3) := dk_180 0 171 (dk_at dksX1_losePromises_3 15 rfl rfl)
theorem dX1_losePromises_83 : decode cX1_losePromises 83 = .ok (.invokevirtual 193, 3) := dk_182 0 193 (dk_at dksX1_losePromises_3 18 rfl rfl)
theorem dX1_losePromises_86 : decode cX1_losePromises 86 = .ok (.ifCond .eq 7, 3) := dk_153 0 7 (dk_at dksX1_losePromises_3 21 rfl rfl)
theorem dX1_losePromises_89 : decode cX1_losePromises 89 = .ok (.iconst 1, 1) := dk_4 (dk_at dksX1_losePromises_4 0 rfl rfl)
theorem dX1_losePromises_90 : decode cX1_losePromises 90 = .ok (.goto 4, 3) := dk_167 0 4 (dk_at dksX1_losePromises_4 1 rfl rfl)
theorem dX1_losePromises_93 : decode cX1_losePromises 93 = .ok (.iconst 0, 1) := dk_3 (dk_at dksX1_losePromises_4 4 rfl rfl)
theorem dX1_losePromises_94 : decode cX1_losePromises 94 = .ok (.istore 4, 2) := dk_54 4 (dk_at dksX1_losePromises_4 5 rfl rfl)
theorem dX1_losePromises_96 : decode cX1_losePromises 96 = .ok (.goto (-55), 3) := dk_167 255 201 (dk_at dksX1_losePromises_4 7 rfl rfl)
theorem dX1_losePromises_99 : decode cX1_losePromises 99 = .ok (.iload 4, 2) := dk_21 4 (dk_at dksX1_losePromises_4 10 rfl rfl)
theorem dX1_losePromises_101 : decode cX1_losePromises 101 = .ok (.ifCond .eq 18, 3) := dk_153 0 18 (dk_at dksX1_losePromises_4 12 rfl rfl)
theorem dX1_losePromises_104 : decode cX1_losePromises 104 = .ok (.aload_n 0, 1) := dk_42 (dk_at dksX1_losePromises_4 15 rfl rfl)
theorem dX1_losePromises_105 : decode cX1_losePromises 105 = .ok (.aload_n 3, 1) := dk_45 (dk_at dksX1_losePromises_4 16 rfl rfl)
theorem dX1_losePromises_106 : decode cX1_losePromises 106 = .ok (.invokevirtual 196, 3) := dk_182 0 196 (dk_at dksX1_losePromises_4 17 rfl rfl)
theorem dX1_losePromises_109 : decode cX1_losePromises 109 = .ok (.aload_n 3, 1) := dk_45 (dk_at dksX1_losePromises_4 20 rfl rfl)
theorem dX1_losePromises_110 : decode cX1_losePromises 110 = .ok (.getstatic 200, 3) := dk_178 0 200 (dk_at dksX1_losePromises_4 21 rfl rfl)
theorem dX1_losePromises_113 : decode cX1_losePromises 113 = .ok (.putfield 184, 3) := dk_181 0 184 (dk_at dksX1_losePromises_5 0 rfl rfl)
theorem dX1_losePromises_116 : decode cX1_losePromises 116 = .ok (.iinc 1 1, 3) := dk_132 1 1 (dk_at dksX1_losePromises_5 3 rfl rfl)
theorem dX1_losePromises_119 : decode cX1_losePromises 119 = .ok (.goto (-109), 3) := dk_167 255 147 (dk_at dksX1_losePromises_5 6 rfl rfl)
theorem dX1_losePromises_122 : decode cX1_losePromises 122 = .ok (.iload_n 1, 1) := dk_27 (dk_at dksX1_losePromises_5 9 rfl rfl)
theorem dX1_losePromises_123 : decode cX1_losePromises 123 = .ok (.ireturn, 1) := dk_172 (dk_at dksX1_losePromises_5 10 rfl rfl)
abbrev cX1_takeBack : ByteArray := prog_1_method_18_code
def yX1_takeBack : MethodName := ⟨RX1, "takeBack", "(LFoundrymark$Order;)V"⟩
def dkwX1_takeBack_2 : List UInt8 := [180, 0, 150, 182, 0, 181, 177]
abbrev dktX1_takeBack_2 : List UInt8 := dkwX1_takeBack_2 ++ []
def dkwX1_takeBack_1 : List UInt8 := [192, 0, 169, 78, 45, 180, 0, 171, 89, 180, 0, 175, 45, 180, 0, 178, 100, 181, 0, 175, 167, 255, 221, 43]
abbrev dktX1_takeBack_1 : List UInt8 := dkwX1_takeBack_1 ++ dktX1_takeBack_2
def dkwX1_takeBack_0 : List UInt8 := [43, 180, 0, 150, 182, 0, 155, 77, 44, 185, 0, 159, 1, 0, 153, 0, 32, 44, 185, 0, 165, 1, 0]
abbrev dktX1_takeBack_0 : List UInt8 := dkwX1_takeBack_0 ++ dktX1_takeBack_1
theorem dksX1_takeBack_0 : cX1_takeBack.data.toList.drop 0 = dktX1_takeBack_0 := by decide +kernel
theorem dksX1_takeBack_1 : cX1_takeBack.data.toList.drop 23 = dktX1_takeBack_1 := dk_seg dksX1_takeBack_0 23 rfl rfl
theorem dksX1_takeBack_2 : cX1_takeBack.data.toList.drop 47 = dktX1_takeBack_2 := dk_seg dksX1_takeBack_1 24 rfl rfl
theorem dX1_takeBack_0 : decode cX1_takeBack 0 = .ok (.aload_n 1, 1) := dk_43 (dk_at dksX1_takeBack_0 0 rfl rfl)
theorem dX1_takeBack_1 : decode cX1_takeBack 1 = .ok (.getfield 150, 3) := dk_180 0 150 (dk_at dksX1_takeBack_0 1 rfl rfl)
theorem dX1_takeBack_4 : decode cX1_takeBack 4 = .ok (.invokevirtual 155, 3) := dk_182 0 155 (dk_at dksX1_takeBack_0 4 rfl rfl)
theorem dX1_takeBack_7 : decode cX1_takeBack 7 = .ok (.astore_n 2, 1) := dk_77 (dk_at dksX1_takeBack_0 7 rfl rfl)
theorem dX1_takeBack_8 : decode cX1_takeBack 8 = .ok (.aload_n 2, 1) := dk_44 (dk_at dksX1_takeBack_0 8 rfl rfl)
theorem dX1_takeBack_9 : decode cX1_takeBack 9 = .ok (.invokeinterface 159 1, 5) := by decide +kernel
theorem dX1_takeBack_14 : decode cX1_takeBack 14 = .ok (.ifCond .eq 32, 3) := dk_153 0 32 (dk_at dksX1_takeBack_0 14 rfl rfl)
theorem dX1_takeBack_17 : decode cX1_takeBack 17 = .ok (.aload_n 2, 1) := dk_44 (dk_at dksX1_takeBack_0 17 rfl rfl)
theorem dX1_takeBack_18 : decode cX1_takeBack 18 = .ok (.invokeinterface 165 1, 5) := by decide +kernel
theorem dX1_takeBack_23 : decode cX1_takeBack 23 = .ok (.checkcast 169, 3) := dk_192 0 169 (dk_at dksX1_takeBack_1 0 rfl rfl)
theorem dX1_takeBack_26 : decode cX1_takeBack 26 = .ok (.astore_n 3, 1) := dk_78 (dk_at dksX1_takeBack_1 3 rfl rfl)
theorem dX1_takeBack_27 : decode cX1_takeBack 27 = .ok (.aload_n 3, 1) := dk_45 (dk_at dksX1_takeBack_1 4 rfl rfl)
theorem dX1_takeBack_28 : decode cX1_takeBack 28 = .ok (.getfield 171, 3) := dk_180 0 171 (dk_at dksX1_takeBack_1 5 rfl rfl)
theorem dX1_takeBack_31 : decode cX1_takeBack 31 = .ok (.dup, 1) := dk_89 (dk_at dksX1_takeBack_1 8 rfl rfl)
theorem dX1_takeBack_32 : decode cX1_takeBack 32 = .ok (.getfield 175, 3) := dk_180 0 175 (dk_at dksX1_takeBack_1 9 rfl rfl)
theorem dX1_takeBack_35 : decode cX1_takeBack 35 = .ok (.aload_n 3, 1) := dk_45 (dk_at dksX1_takeBack_1 12 rfl rfl)
theorem dX1_takeBack_36 : decode cX1_takeBack 36 = .ok (.getfield 178, 3) := dk_180 0 178 (dk_at dksX1_takeBack_1 13 rfl rfl)
theorem dX1_takeBack_39 : decode cX1_takeBack 39 = .ok (.isub, 1) := dk_100 (dk_at dksX1_takeBack_1 16 rfl rfl)
theorem dX1_takeBack_40 : decode cX1_takeBack 40 = .ok (.putfield 175, 3) := dk_181 0 175 (dk_at dksX1_takeBack_1 17 rfl rfl)
theorem dX1_takeBack_43 : decode cX1_takeBack 43 = .ok (.goto (-35), 3) := dk_167 255 221 (dk_at dksX1_takeBack_1 20 rfl rfl)
theorem dX1_takeBack_46 : decode cX1_takeBack 46 = .ok (.aload_n 1, 1) := dk_43 (dk_at dksX1_takeBack_1 23 rfl rfl)
theorem dX1_takeBack_47 : decode cX1_takeBack 47 = .ok (.getfield 150, 3) := dk_180 0 150 (dk_at dksX1_takeBack_2 0 rfl rfl)
theorem dX1_takeBack_50 : decode cX1_takeBack 50 = .ok (.invokevirtual 181, 3) := dk_182 0 181 (dk_at dksX1_takeBack_2 3 rfl rfl)
theorem dX1_takeBack_53 : decode cX1_takeBack 53 = .ok (.return_, 1) := dk_177 (dk_at dksX1_takeBack_2 6 rfl rfl)
abbrev cX1_isHeld : ByteArray := prog_1_method_21_code
def yX1_isHeld : MethodName := ⟨RX1, "isHeld", "(I)Z"⟩
def dkwX1_isHeld_0 : List UInt8 := [42, 27, 182, 0, 203, 182, 0, 193, 172]
abbrev dktX1_isHeld_0 : List UInt8 := dkwX1_isHeld_0 ++ []
theorem dksX1_isHeld_0 : cX1_isHeld.data.toList.drop 0 = dktX1_isHeld_0 := by decide +kernel
theorem dX1_isHeld_0 : decode cX1_isHeld 0 = .ok (.aload_n 0, 1) := dk_42 (dk_at dksX1_isHeld_0 0 rfl rfl)
theorem dX1_isHeld_1 : decode cX1_isHeld 1 = .ok (.iload_n 1, 1) := dk_27 (dk_at dksX1_isHeld_0 1 rfl rfl)
theorem dX1_isHeld_2 : decode cX1_isHeld 2 = .ok (.invokevirtual 203, 3) := dk_182 0 203 (dk_at dksX1_isHeld_0 2 rfl rfl)
theorem dX1_isHeld_5 : decode cX1_isHeld 5 = .ok (.invokevirtual 193, 3) := dk_182 0 193 (dk_at dksX1_isHeld_0 5 rfl rfl)
theorem dX1_isHeld_8 : decode cX1_isHeld 8 = .ok (.ireturn, 1) := dk_172 (dk_at dksX1_isHeld_0 8 rfl rfl)
abbrev cX1_setChart : ByteArray := prog_1_method_22_code
def yX1_setChart : MethodName := ⟨RX1, "setChart", "(III)I"⟩
def dkwX1_setChart_2 : List UInt8 := [181, 0, 212, 25, 4, 3, 181, 0, 215, 25, 4, 3, 181, 0, 218, 25, 4, 180, 0, 221, 172]
abbrev dktX1_setChart_2 : List UInt8 := dkwX1_setChart_2 ++ []
def dkwX1_setChart_1 : List UInt8 := [184, 0, 47, 153, 0, 7, 4, 167, 0, 4, 3, 184, 0, 51, 25, 4, 28, 181, 0, 209, 25, 4, 29]
abbrev dktX1_setChart_1 : List UInt8 := dkwX1_setChart_1 ++ dktX1_setChart_2
def dkwX1_setChart_0 : List UInt8 := [42, 27, 182, 0, 88, 58, 4, 28, 3, 17, 3, 232, 184, 0, 47, 153, 0, 18, 29, 3, 17, 1, 244]
abbrev dktX1_setChart_0 : List UInt8 := dkwX1_setChart_0 ++ dktX1_setChart_1
theorem dksX1_setChart_0 : cX1_setChart.data.toList.drop 0 = dktX1_setChart_0 := by decide +kernel
theorem dksX1_setChart_1 : cX1_setChart.data.toList.drop 23 = dktX1_setChart_1 := dk_seg dksX1_setChart_0 23 rfl rfl
theorem dksX1_setChart_2 : cX1_setChart.data.toList.drop 46 = dktX1_setChart_2 := dk_seg dksX1_setChart_1 23 rfl rfl
theorem dX1_setChart_0 : decode cX1_setChart 0 = .ok (.aload_n 0, 1) := dk_42 (dk_at dksX1_setChart_0 0 rfl rfl)
theorem dX1_setChart_1 : decode cX1_setChart 1 = .ok (.iload_n 1, 1) := dk_27 (dk_at dksX1_setChart_0 1 rfl rfl)
theorem dX1_setChart_2 : decode cX1_setChart 2 = .ok (.invokevirtual 88, 3) := dk_182 0 88 (dk_at dksX1_setChart_0 2 rfl rfl)
theorem dX1_setChart_5 : decode cX1_setChart 5 = .ok (.astore 4, 2) := dk_58 4 (dk_at dksX1_setChart_0 5 rfl rfl)
theorem dX1_setChart_7 : decode cX1_setChart 7 = .ok (.iload_n 2, 1) := dk_28 (dk_at dksX1_setChart_0 7 rfl rfl)
theorem dX1_setChart_8 : decode cX1_setChart 8 = .ok (.iconst 0, 1) := dk_3 (dk_at dksX1_setChart_0 8 rfl rfl)
theorem dX1_setChart_9 : decode cX1_setChart 9 = .ok (.sipush 1000, 3) := dk_17 3 232 (dk_at dksX1_setChart_0 9 rfl rfl)
theorem dX1_setChart_12 : decode cX1_setChart 12 = .ok (.invokestatic 47, 3) := dk_184 0 47 (dk_at dksX1_setChart_0 12 rfl rfl)
theorem dX1_setChart_15 : decode cX1_setChart 15 = .ok (.ifCond .eq 18, 3) := dk_153 0 18 (dk_at dksX1_setChart_0 15 rfl rfl)
theorem dX1_setChart_18 : decode cX1_setChart 18 = .ok (.iload_n 3, 1) := dk_29 (dk_at dksX1_setChart_0 18 rfl rfl)
theorem dX1_setChart_19 : decode cX1_setChart 19 = .ok (.iconst 0, 1) := dk_3 (dk_at dksX1_setChart_0 19 rfl rfl)
theorem dX1_setChart_20 : decode cX1_setChart 20 = .ok (.sipush 500, 3) := dk_17 1 244 (dk_at dksX1_setChart_0 20 rfl rfl)
theorem dX1_setChart_23 : decode cX1_setChart 23 = .ok (.invokestatic 47, 3) := dk_184 0 47 (dk_at dksX1_setChart_1 0 rfl rfl)
theorem dX1_setChart_26 : decode cX1_setChart 26 = .ok (.ifCond .eq 7, 3) := dk_153 0 7 (dk_at dksX1_setChart_1 3 rfl rfl)
theorem dX1_setChart_29 : decode cX1_setChart 29 = .ok (.iconst 1, 1) := dk_4 (dk_at dksX1_setChart_1 6 rfl rfl)
theorem dX1_setChart_30 : decode cX1_setChart 30 = .ok (.goto 4, 3) := dk_167 0 4 (dk_at dksX1_setChart_1 7 rfl rfl)
theorem dX1_setChart_33 : decode cX1_setChart 33 = .ok (.iconst 0, 1) := dk_3 (dk_at dksX1_setChart_1 10 rfl rfl)
theorem dX1_setChart_34 : decode cX1_setChart 34 = .ok (.invokestatic 51, 3) := dk_184 0 51 (dk_at dksX1_setChart_1 11 rfl rfl)
theorem dX1_setChart_37 : decode cX1_setChart 37 = .ok (.aload 4, 2) := dk_25 4 (dk_at dksX1_setChart_1 14 rfl rfl)
theorem dX1_setChart_39 : decode cX1_setChart 39 = .ok (.iload_n 2, 1) := dk_28 (dk_at dksX1_setChart_1 16 rfl rfl)
theorem dX1_setChart_40 : decode cX1_setChart 40 = .ok (.putfield 209, 3) := dk_181 0 209 (dk_at dksX1_setChart_1 17 rfl rfl)
theorem dX1_setChart_43 : decode cX1_setChart 43 = .ok (.aload 4, 2) := dk_25 4 (dk_at dksX1_setChart_1 20 rfl rfl)
theorem dX1_setChart_45 : decode cX1_setChart 45 = .ok (.iload_n 3, 1) := dk_29 (dk_at dksX1_setChart_1 22 rfl rfl)
theorem dX1_setChart_46 : decode cX1_setChart 46 = .ok (.putfield 212, 3) := dk_181 0 212 (dk_at dksX1_setChart_2 0 rfl rfl)
theorem dX1_setChart_49 : decode cX1_setChart 49 = .ok (.aload 4, 2) := dk_25 4 (dk_at dksX1_setChart_2 3 rfl rfl)
theorem dX1_setChart_51 : decode cX1_setChart 51 = .ok (.iconst 0, 1) := dk_3 (dk_at dksX1_setChart_2 5 rfl rfl)
theorem dX1_setChart_52 : decode cX1_setChart 52 = .ok (.putfield 215, 3) := dk_181 0 215 (dk_at dksX1_setChart_2 6 rfl rfl)
theorem dX1_setChart_55 : decode cX1_setChart 55 = .ok (.aload 4, 2) := dk_25 4 (dk_at dksX1_setChart_2 9 rfl rfl)
theorem dX1_setChart_57 : decode cX1_setChart 57 = .ok (.iconst 0, 1) := dk_3 (dk_at dksX1_setChart_2 11 rfl rfl)
theorem dX1_setChart_58 : decode cX1_setChart 58 = .ok (.putfield 218, 3) := dk_181 0 218 (dk_at dksX1_setChart_2 12 rfl rfl)
theorem dX1_setChart_61 : decode cX1_setChart 61 = .ok (.aload 4, 2) := dk_25 4 (dk_at dksX1_setChart_2 15 rfl rfl)
theorem dX1_setChart_63 : decode cX1_setChart 63 = .ok (.getfield 221, 3) := dk_180 0 221 (dk_at dksX1_setChart_2 17 rfl rfl)
theorem dX1_setChart_66 : decode cX1_setChart 66 = .ok (.ireturn, 1) := dk_172 (dk_at dksX1_setChart_2 20 rfl rfl)
abbrev cX1_measure : ByteArray := prog_1_method_23_code
def yX1_measure : MethodName := ⟨RX1, "measure", "(II)Z"⟩
def dkwX1_measure_2 : List UInt8 := [42, 182, 0, 206, 87, 45, 180, 0, 133, 153, 0, 12, 21, 4, 154, 0, 7, 4, 167, 0, 4, 3, 172]
abbrev dktX1_measure_2 : List UInt8 := dkwX1_measure_2 ++ []
def dkwX1_measure_1 : List UInt8 := [45, 180, 0, 224, 28, 182, 0, 227, 154, 0, 8, 21, 4, 153, 0, 7, 4, 167, 0, 4, 3, 181, 0, 133]
abbrev dktX1_measure_1 : List UInt8 := dkwX1_measure_1 ++ dktX1_measure_2
def dkwX1_measure_0 : List UInt8 := [42, 27, 182, 0, 203, 78, 28, 3, 17, 7, 208, 184, 0, 47, 184, 0, 51, 45, 180, 0, 133, 54, 4, 45]
abbrev dktX1_measure_0 : List UInt8 := dkwX1_measure_0 ++ dktX1_measure_1
theorem dksX1_measure_0 : cX1_measure.data.toList.drop 0 = dktX1_measure_0 := by decide +kernel
theorem dksX1_measure_1 : cX1_measure.data.toList.drop 24 = dktX1_measure_1 := dk_seg dksX1_measure_0 24 rfl rfl
theorem dksX1_measure_2 : cX1_measure.data.toList.drop 48 = dktX1_measure_2 := dk_seg dksX1_measure_1 24 rfl rfl
theorem dX1_measure_0 : decode cX1_measure 0 = .ok (.aload_n 0, 1) := dk_42 (dk_at dksX1_measure_0 0 rfl rfl)
theorem dX1_measure_1 : decode cX1_measure 1 = .ok (.iload_n 1, 1) := dk_27 (dk_at dksX1_measure_0 1 rfl rfl)
theorem dX1_measure_2 : decode cX1_measure 2 = .ok (.invokevirtual 203, 3) := dk_182 0 203 (dk_at dksX1_measure_0 2 rfl rfl)
theorem dX1_measure_5 : decode cX1_measure 5 = .ok (.astore_n 3, 1) := dk_78 (dk_at dksX1_measure_0 5 rfl rfl)
theorem dX1_measure_6 : decode cX1_measure 6 = .ok (.iload_n 2, 1) := dk_28 (dk_at dksX1_measure_0 6 rfl rfl)
theorem dX1_measure_7 : decode cX1_measure 7 = .ok (.iconst 0, 1) := dk_3 (dk_at dksX1_measure_0 7 rfl rfl)
theorem dX1_measure_8 : decode cX1_measure 8 = .ok (.sipush 2000, 3) := dk_17 7 208 (dk_at dksX1_measure_0 8 rfl rfl)
theorem dX1_measure_11 : decode cX1_measure 11 = .ok (.invokestatic 47, 3) := dk_184 0 47 (dk_at dksX1_measure_0 11 rfl rfl)
theorem dX1_measure_14 : decode cX1_measure 14 = .ok (.invokestatic 51, 3) := dk_184 0 51 (dk_at dksX1_measure_0 14 rfl rfl)
theorem dX1_measure_17 : decode cX1_measure 17 = .ok (.aload_n 3, 1) := dk_45 (dk_at dksX1_measure_0 17 rfl rfl)
theorem dX1_measure_18 : decode cX1_measure 18 = .ok (.getfield 133, 3) := dk_180 0 133 (dk_at dksX1_measure_0 18 rfl rfl)
theorem dX1_measure_21 : decode cX1_measure 21 = .ok (.istore 4, 2) := dk_54 4 (dk_at dksX1_measure_0 21 rfl rfl)
theorem dX1_measure_23 : decode cX1_measure 23 = .ok (.aload_n 3, 1) := dk_45 (dk_at dksX1_measure_0 23 rfl rfl)
theorem dX1_measure_24 : decode cX1_measure 24 = .ok (.aload_n 3, 1) := dk_45 (dk_at dksX1_measure_1 0 rfl rfl)
theorem dX1_measure_25 : decode cX1_measure 25 = .ok (.getfield 224, 3) := dk_180 0 224 (dk_at dksX1_measure_1 1 rfl rfl)
theorem dX1_measure_28 : decode cX1_measure 28 = .ok (.iload_n 2, 1) := dk_28 (dk_at dksX1_measure_1 4 rfl rfl)
theorem dX1_measure_29 : decode cX1_measure 29 = .ok (.invokevirtual 227, 3) := dk_182 0 227 (dk_at dksX1_measure_1 5 rfl rfl)
theorem dX1_measure_32 : decode cX1_measure 32 = .ok (.ifCond .ne 8, 3) := dk_154 0 8 (dk_at dksX1_measure_1 8 rfl rfl)
theorem dX1_measure_35 : decode cX1_measure 35 = .ok (.iload 4, 2) := dk_21 4 (dk_at dksX1_measure_1 11 rfl rfl)
theorem dX1_measure_37 : decode cX1_measure 37 = .ok (.ifCond .eq 7, 3) := dk_153 0 7 (dk_at dksX1_measure_1 13 rfl rfl)
theorem dX1_measure_40 : decode cX1_measure 40 = .ok (.iconst 1, 1) := dk_4 (dk_at dksX1_measure_1 16 rfl rfl)
theorem dX1_measure_41 : decode cX1_measure 41 = .ok (.goto 4, 3) := dk_167 0 4 (dk_at dksX1_measure_1 17 rfl rfl)
theorem dX1_measure_44 : decode cX1_measure 44 = .ok (.iconst 0, 1) := dk_3 (dk_at dksX1_measure_1 20 rfl rfl)
theorem dX1_measure_45 : decode cX1_measure 45 = .ok (.putfield 133, 3) := dk_181 0 133 (dk_at dksX1_measure_1 21 rfl rfl)
theorem dX1_measure_48 : decode cX1_measure 48 = .ok (.aload_n 0, 1) := dk_42 (dk_at dksX1_measure_2 0 rfl rfl)
theorem dX1_measure_49 : decode cX1_measure 49 = .ok (.invokevirtual 206, 3) := dk_182 0 206 (dk_at dksX1_measure_2 1 rfl rfl)
theorem dX1_measure_52 : decode cX1_measure 52 = .ok (.pop, 1) := dk_87 (dk_at dksX1_measure_2 4 rfl rfl)
theorem dX1_measure_53 : decode cX1_measure 53 = .ok (.aload_n 3, 1) := dk_45 (dk_at dksX1_measure_2 5 rfl rfl)
theorem dX1_measure_54 : decode cX1_measure 54 = .ok (.getfield 133, 3) := dk_180 0 133 (dk_at dksX1_measure_2 6 rfl rfl)
theorem dX1_measure_57 : decode cX1_measure 57 = .ok (.ifCond .eq 12, 3) := dk_153 0 12 (dk_at dksX1_measure_2 9 rfl rfl)
theorem dX1_measure_60 : decode cX1_measure 60 = .ok (.iload 4, 2) := dk_21 4 (dk_at dksX1_measure_2 12 rfl rfl)
theorem dX1_measure_62 : decode cX1_measure 62 = .ok (.ifCond .ne 7, 3) := dk_154 0 7 (dk_at dksX1_measure_2 14 rfl rfl)
theorem dX1_measure_65 : decode cX1_measure 65 = .ok (.iconst 1, 1) := dk_4 (dk_at dksX1_measure_2 17 rfl rfl)
theorem dX1_measure_66 : decode cX1_measure 66 = .ok (.goto 4, 3) := dk_167 0 4 (dk_at dksX1_measure_2 18 rfl rfl)
theorem dX1_measure_69 : decode cX1_measure 69 = .ok (.iconst 0, 1) := dk_3 (dk_at dksX1_measure_2 21 rfl rfl)
theorem dX1_measure_70 : decode cX1_measure 70 = .ok (.ireturn, 1) := dk_172 (dk_at dksX1_measure_2 22 rfl rfl)
abbrev cX1_partOf : ByteArray := prog_1_method_25_code
def yX1_partOf : MethodName := ⟨RX1, "partOf", "(I)I"⟩
def dkwX1_partOf_0 : List UInt8 := [42, 27, 182, 0, 203, 180, 0, 224, 180, 0, 230, 172]
abbrev dktX1_partOf_0 : List UInt8 := dkwX1_partOf_0 ++ []
theorem dksX1_partOf_0 : cX1_partOf.data.toList.drop 0 = dktX1_partOf_0 := by decide +kernel
theorem dX1_partOf_0 : decode cX1_partOf 0 = .ok (.aload_n 0, 1) := dk_42 (dk_at dksX1_partOf_0 0 rfl rfl)
theorem dX1_partOf_1 : decode cX1_partOf 1 = .ok (.iload_n 1, 1) := dk_27 (dk_at dksX1_partOf_0 1 rfl rfl)
theorem dX1_partOf_2 : decode cX1_partOf 2 = .ok (.invokevirtual 203, 3) := dk_182 0 203 (dk_at dksX1_partOf_0 2 rfl rfl)
theorem dX1_partOf_5 : decode cX1_partOf 5 = .ok (.getfield 224, 3) := dk_180 0 224 (dk_at dksX1_partOf_0 5 rfl rfl)
theorem dX1_partOf_8 : decode cX1_partOf 8 = .ok (.getfield 230, 3) := dk_180 0 230 (dk_at dksX1_partOf_0 8 rfl rfl)
theorem dX1_partOf_11 : decode cX1_partOf 11 = .ok (.ireturn, 1) := dk_172 (dk_at dksX1_partOf_0 11 rfl rfl)
abbrev cX1_rest : ByteArray := prog_1_method_26_code
def yX1_rest : MethodName := ⟨RX1, "rest", "(I)I"⟩
def dkwX1_rest_0 : List UInt8 := [42, 27, 182, 0, 203, 180, 0, 231, 172]
abbrev dktX1_rest_0 : List UInt8 := dkwX1_rest_0 ++ []
theorem dksX1_rest_0 : cX1_rest.data.toList.drop 0 = dktX1_rest_0 := by decide +kernel
theorem dX1_rest_0 : decode cX1_rest 0 = .ok (.aload_n 0, 1) := dk_42 (dk_at dksX1_rest_0 0 rfl rfl)
theorem dX1_rest_1 : decode cX1_rest 1 = .ok (.iload_n 1, 1) := dk_27 (dk_at dksX1_rest_0 1 rfl rfl)
theorem dX1_rest_2 : decode cX1_rest 2 = .ok (.invokevirtual 203, 3) := dk_182 0 203 (dk_at dksX1_rest_0 2 rfl rfl)
theorem dX1_rest_5 : decode cX1_rest 5 = .ok (.getfield 231, 3) := dk_180 0 231 (dk_at dksX1_rest_0 5 rfl rfl)
theorem dX1_rest_8 : decode cX1_rest 8 = .ok (.ireturn, 1) := dk_172 (dk_at dksX1_rest_0 8 rfl rfl)
abbrev cX1_reserved : ByteArray := prog_1_method_27_code
def yX1_reserved : MethodName := ⟨RX1, "reserved", "(I)I"⟩
def dkwX1_reserved_0 : List UInt8 := [42, 27, 182, 0, 203, 180, 0, 175, 172]
abbrev dktX1_reserved_0 : List UInt8 := dkwX1_reserved_0 ++ []
theorem dksX1_reserved_0 : cX1_reserved.data.toList.drop 0 = dktX1_reserved_0 := by decide +kernel
theorem dX1_reserved_0 : decode cX1_reserved 0 = .ok (.aload_n 0, 1) := dk_42 (dk_at dksX1_reserved_0 0 rfl rfl)
theorem dX1_reserved_1 : decode cX1_reserved 1 = .ok (.iload_n 1, 1) := dk_27 (dk_at dksX1_reserved_0 1 rfl rfl)
theorem dX1_reserved_2 : decode cX1_reserved 2 = .ok (.invokevirtual 203, 3) := dk_182 0 203 (dk_at dksX1_reserved_0 2 rfl rfl)
theorem dX1_reserved_5 : decode cX1_reserved 5 = .ok (.getfield 175, 3) := dk_180 0 175 (dk_at dksX1_reserved_0 5 rfl rfl)
theorem dX1_reserved_8 : decode cX1_reserved 8 = .ok (.ireturn, 1) := dk_172 (dk_at dksX1_reserved_0 8 rfl rfl)
abbrev cX1_costOf_2 : ByteArray := prog_1_method_28_code
def yX1_costOf_2 : MethodName := ⟨RX1, "costOf", "(I)J"⟩
def dkwX1_costOf_2_0 : List UInt8 := [42, 27, 182, 0, 203, 180, 0, 234, 173]
abbrev dktX1_costOf_2_0 : List UInt8 := dkwX1_costOf_2_0 ++ []
theorem dksX1_costOf_2_0 : cX1_costOf_2.data.toList.drop 0 = dktX1_costOf_2_0 := by decide +kernel
theorem dX1_costOf_2_0 : decode cX1_costOf_2 0 = .ok (.aload_n 0, 1) := dk_42 (dk_at dksX1_costOf_2_0 0 rfl rfl)
theorem dX1_costOf_2_1 : decode cX1_costOf_2 1 = .ok (.iload_n 1, 1) := dk_27 (dk_at dksX1_costOf_2_0 1 rfl rfl)
theorem dX1_costOf_2_2 : decode cX1_costOf_2 2 = .ok (.invokevirtual 203, 3) := dk_182 0 203 (dk_at dksX1_costOf_2_0 2 rfl rfl)
theorem dX1_costOf_2_5 : decode cX1_costOf_2 5 = .ok (.getfield 234, 3) := dk_180 0 234 (dk_at dksX1_costOf_2_0 5 rfl rfl)
theorem dX1_costOf_2_8 : decode cX1_costOf_2 8 = .ok (.lreturn, 1) := dk_173 (dk_at dksX1_costOf_2_0 8 rfl rfl)
abbrev cX1_order : ByteArray := prog_1_method_30_code
def yX1_order : MethodName := ⟨RX1, "order", "(IIII)I"⟩
def dkwX1_order_4 : List UInt8 := [42, 180, 0, 37, 182, 0, 55, 4, 100, 172]
abbrev dktX1_order_4 : List UInt8 := dkwX1_order_4 ++ []
def dkwX1_order_3 : List UInt8 := [187, 0, 151, 89, 42, 180, 0, 37, 182, 0, 55, 25, 5, 28, 29, 21, 4, 183, 0, 237, 182, 0, 67, 87]
abbrev dktX1_order_3 : List UInt8 := dkwX1_order_3 ++ dktX1_order_4
def dkwX1_order_2 : List UInt8 := [180, 0, 37, 182, 0, 55, 16, 30, 162, 0, 7, 4, 167, 0, 4, 3, 184, 0, 59, 42, 180, 0, 37]
abbrev dktX1_order_2 : List UInt8 := dkwX1_order_2 ++ dktX1_order_3
def dkwX1_order_1 : List UInt8 := [153, 0, 19, 21, 4, 3, 17, 39, 15, 184, 0, 47, 153, 0, 7, 4, 167, 0, 4, 3, 184, 0, 51, 42]
abbrev dktX1_order_1 : List UInt8 := dkwX1_order_1 ++ dktX1_order_2
def dkwX1_order_0 : List UInt8 := [42, 27, 182, 0, 88, 58, 5, 28, 4, 16, 100, 184, 0, 47, 153, 0, 28, 29, 3, 5, 184, 0, 47]
abbrev dktX1_order_0 : List UInt8 := dkwX1_order_0 ++ dktX1_order_1
theorem dksX1_order_0 : cX1_order.data.toList.drop 0 = dktX1_order_0 := by decide +kernel
theorem dksX1_order_1 : cX1_order.data.toList.drop 23 = dktX1_order_1 := dk_seg dksX1_order_0 23 rfl rfl
theorem dksX1_order_2 : cX1_order.data.toList.drop 47 = dktX1_order_2 := dk_seg dksX1_order_1 24 rfl rfl
theorem dksX1_order_3 : cX1_order.data.toList.drop 70 = dktX1_order_3 := dk_seg dksX1_order_2 23 rfl rfl
theorem dksX1_order_4 : cX1_order.data.toList.drop 94 = dktX1_order_4 := dk_seg dksX1_order_3 24 rfl rfl
theorem dX1_order_0 : decode cX1_order 0 = .ok (.aload_n 0, 1) := dk_42 (dk_at dksX1_order_0 0 rfl rfl)
theorem dX1_order_1 : decode cX1_order 1 = .ok (.iload_n 1, 1) := dk_27 (dk_at dksX1_order_0 1 rfl rfl)
theorem dX1_order_2 : decode cX1_order 2 = .ok (.invokevirtual 88, 3) := dk_182 0 88 (dk_at dksX1_order_0 2 rfl rfl)
theorem dX1_order_5 : decode cX1_order 5 = .ok (.astore 5, 2) := dk_58 5 (dk_at dksX1_order_0 5 rfl rfl)
theorem dX1_order_7 : decode cX1_order 7 = .ok (.iload_n 2, 1) := dk_28 (dk_at dksX1_order_0 7 rfl rfl)
theorem dX1_order_8 : decode cX1_order 8 = .ok (.iconst 1, 1) := dk_4 (dk_at dksX1_order_0 8 rfl rfl)
theorem dX1_order_9 : decode cX1_order 9 = .ok (.bipush 100, 2) := dk_16 100 (dk_at dksX1_order_0 9 rfl rfl)
theorem dX1_order_11 : decode cX1_order 11 = .ok (.invokestatic 47, 3) := dk_184 0 47 (dk_at dksX1_order_0 11 rfl rfl)
theorem dX1_order_14 : decode cX1_order 14 = .ok (.ifCond .eq 28, 3) := dk_153 0 28 (dk_at dksX1_order_0 14 rfl rfl)
theorem dX1_order_17 : decode cX1_order 17 = .ok (.iload_n 3, 1) := dk_29 (dk_at dksX1_order_0 17 rfl rfl)
theorem dX1_order_18 : decode cX1_order 18 = .ok (.iconst 0, 1) := dk_3 (dk_at dksX1_order_0 18 rfl rfl)
theorem dX1_order_19 : decode cX1_order 19 = .ok (.iconst 2, 1) := dk_5 (dk_at dksX1_order_0 19 rfl rfl)
theorem dX1_order_20 : decode cX1_order 20 = .ok (.invokestatic 47, 3) := dk_184 0 47 (dk_at dksX1_order_0 20 rfl rfl)
theorem dX1_order_23 : decode cX1_order 23 = .ok (.ifCond .eq 19, 3) := dk_153 0 19 (dk_at dksX1_order_1 0 rfl rfl)
theorem dX1_order_26 : decode cX1_order 26 = .ok (.iload 4, 2) := dk_21 4 (dk_at dksX1_order_1 3 rfl rfl)
theorem dX1_order_28 : decode cX1_order 28 = .ok (.iconst 0, 1) := dk_3 (dk_at dksX1_order_1 5 rfl rfl)
theorem dX1_order_29 : decode cX1_order 29 = .ok (.sipush 9999, 3) := dk_17 39 15 (dk_at dksX1_order_1 6 rfl rfl)
theorem dX1_order_32 : decode cX1_order 32 = .ok (.invokestatic 47, 3) := dk_184 0 47 (dk_at dksX1_order_1 9 rfl rfl)
theorem dX1_order_35 : decode cX1_order 35 = .ok (.ifCond .eq 7, 3) := dk_153 0 7 (dk_at dksX1_order_1 12 rfl rfl)
theorem dX1_order_38 : decode cX1_order 38 = .ok (.iconst 1, 1) := dk_4 (dk_at dksX1_order_1 15 rfl rfl)
theorem dX1_order_39 : decode cX1_order 39 = .ok (.goto 4, 3) := dk_167 0 4 (dk_at dksX1_order_1 16 rfl rfl)
theorem dX1_order_42 : decode cX1_order 42 = .ok (.iconst 0, 1) := dk_3 (dk_at dksX1_order_1 19 rfl rfl)
theorem dX1_order_43 : decode cX1_order 43 = .ok (.invokestatic 51, 3) := dk_184 0 51 (dk_at dksX1_order_1 20 rfl rfl)
theorem dX1_order_46 : decode cX1_order 46 = .ok (.aload_n 0, 1) := dk_42 (dk_at dksX1_order_1 23 rfl rfl)
theorem dX1_order_47 : decode cX1_order 47 = .ok (.getfield 37, 3) := dk_180 0 37 (dk_at dksX1_order_2 0 rfl rfl)
theorem dX1_order_50 : decode cX1_order 50 = .ok (.invokevirtual 55, 3) := dk_182 0 55 (dk_at dksX1_order_2 3 rfl rfl)
theorem dX1_order_53 : decode cX1_order 53 = .ok (.bipush 30, 2) := dk_16 30 (dk_at dksX1_order_2 6 rfl rfl)
theorem dX1_order_55 : decode cX1_order 55 = .ok (.if_icmp .ge 7, 3) := dk_162 0 7 (dk_at dksX1_order_2 8 rfl rfl)
theorem dX1_order_58 : decode cX1_order 58 = .ok (.iconst 1, 1) := dk_4 (dk_at dksX1_order_2 11 rfl rfl)
theorem dX1_order_59 : decode cX1_order 59 = .ok (.goto 4, 3) := dk_167 0 4 (dk_at dksX1_order_2 12 rfl rfl)
theorem dX1_order_62 : decode cX1_order 62 = .ok (.iconst 0, 1) := dk_3 (dk_at dksX1_order_2 15 rfl rfl)
theorem dX1_order_63 : decode cX1_order 63 = .ok (.invokestatic 59, 3) := dk_184 0 59 (dk_at dksX1_order_2 16 rfl rfl)
theorem dX1_order_66 : decode cX1_order 66 = .ok (.aload_n 0, 1) := dk_42 (dk_at dksX1_order_2 19 rfl rfl)
theorem dX1_order_67 : decode cX1_order 67 = .ok (.getfield 37, 3) := dk_180 0 37 (dk_at dksX1_order_2 20 rfl rfl)
theorem dX1_order_70 : decode cX1_order 70 = .ok (.new 151, 3) := dk_187 0 151 (dk_at dksX1_order_3 0 rfl rfl)
theorem dX1_order_73 : decode cX1_order 73 = .ok (.dup, 1) := dk_89 (dk_at dksX1_order_3 3 rfl rfl)
theorem dX1_order_74 : decode cX1_order 74 = .ok (.aload_n 0, 1) := dk_42 (dk_at dksX1_order_3 4 rfl rfl)
theorem dX1_order_75 : decode cX1_order 75 = .ok (.getfield 37, 3) := dk_180 0 37 (dk_at dksX1_order_3 5 rfl rfl)
theorem dX1_order_78 : decode cX1_order 78 = .ok (.invokevirtual 55, 3) := dk_182 0 55 (dk_at dksX1_order_3 8 rfl rfl)
theorem dX1_order_81 : decode cX1_order 81 = .ok (.aload 5, 2) := dk_25 5 (dk_at dksX1_order_3 11 rfl rfl)
theorem dX1_order_83 : decode cX1_order 83 = .ok (.iload_n 2, 1) := dk_28 (dk_at dksX1_order_3 13 rfl rfl)
theorem dX1_order_84 : decode cX1_order 84 = .ok (.iload_n 3, 1) := dk_29 (dk_at dksX1_order_3 14 rfl rfl)
theorem dX1_order_85 : decode cX1_order 85 = .ok (.iload 4, 2) := dk_21 4 (dk_at dksX1_order_3 15 rfl rfl)
theorem dX1_order_87 : decode cX1_order 87 = .ok (.invokespecial 237, 3) := dk_183 0 237 (dk_at dksX1_order_3 17 rfl rfl)
theorem dX1_order_90 : decode cX1_order 90 = .ok (.invokevirtual 67, 3) := dk_182 0 67 (dk_at dksX1_order_3 20 rfl rfl)
theorem dX1_order_93 : decode cX1_order 93 = .ok (.pop, 1) := dk_87 (dk_at dksX1_order_3 23 rfl rfl)
theorem dX1_order_94 : decode cX1_order 94 = .ok (.aload_n 0, 1) := dk_42 (dk_at dksX1_order_4 0 rfl rfl)
theorem dX1_order_95 : decode cX1_order 95 = .ok (.getfield 37, 3) := dk_180 0 37 (dk_at dksX1_order_4 1 rfl rfl)
theorem dX1_order_98 : decode cX1_order 98 = .ok (.invokevirtual 55, 3) := dk_182 0 55 (dk_at dksX1_order_4 4 rfl rfl)
theorem dX1_order_101 : decode cX1_order 101 = .ok (.iconst 1, 1) := dk_4 (dk_at dksX1_order_4 7 rfl rfl)
theorem dX1_order_102 : decode cX1_order 102 = .ok (.isub, 1) := dk_100 (dk_at dksX1_order_4 8 rfl rfl)
theorem dX1_order_103 : decode cX1_order 103 = .ok (.ireturn, 1) := dk_172 (dk_at dksX1_order_4 9 rfl rfl)
abbrev cX1_promise : ByteArray := prog_1_method_33_code
def yX1_promise : MethodName := ⟨RX1, "promise", "(I)Z"⟩
def dkwX1_promise_1 : List UInt8 := [166, 0, 7, 4, 167, 0, 4, 3, 184, 0, 92, 42, 44, 182, 1, 19, 172]
abbrev dktX1_promise_1 : List UInt8 := dkwX1_promise_1 ++ []
def dkwX1_promise_0 : List UInt8 := [42, 27, 182, 1, 15, 77, 44, 180, 0, 254, 193, 0, 71, 153, 0, 17, 44, 180, 0, 184, 178, 0, 200]
abbrev dktX1_promise_0 : List UInt8 := dkwX1_promise_0 ++ dktX1_promise_1
theorem dksX1_promise_0 : cX1_promise.data.toList.drop 0 = dktX1_promise_0 := by decide +kernel
theorem dksX1_promise_1 : cX1_promise.data.toList.drop 23 = dktX1_promise_1 := dk_seg dksX1_promise_0 23 rfl rfl
theorem dX1_promise_0 : decode cX1_promise 0 = .ok (.aload_n 0, 1) := dk_42 (dk_at dksX1_promise_0 0 rfl rfl)
theorem dX1_promise_1 : decode cX1_promise 1 = .ok (.iload_n 1, 1) := dk_27 (dk_at dksX1_promise_0 1 rfl rfl)
theorem dX1_promise_2 : decode cX1_promise 2 = .ok (.invokevirtual 271, 3) := dk_182 1 15 (dk_at dksX1_promise_0 2 rfl rfl)
theorem dX1_promise_5 : decode cX1_promise 5 = .ok (.astore_n 2, 1) := dk_77 (dk_at dksX1_promise_0 5 rfl rfl)
theorem dX1_promise_6 : decode cX1_promise 6 = .ok (.aload_n 2, 1) := dk_44 (dk_at dksX1_promise_0 6 rfl rfl)
theorem dX1_promise_7 : decode cX1_promise 7 = .ok (.getfield 254, 3) := dk_180 0 254 (dk_at dksX1_promise_0 7 rfl rfl)
theorem dX1_promise_10 : decode cX1_promise 10 = .ok (.instanceof 71, 3) := dk_193 0 71 (dk_at dksX1_promise_0 10 rfl rfl)
theorem dX1_promise_13 : decode cX1_promise 13 = .ok (.ifCond .eq 17, 3) := dk_153 0 17 (dk_at dksX1_promise_0 13 rfl rfl)
theorem dX1_promise_16 : decode cX1_promise 16 = .ok (.aload_n 2, 1) := dk_44 (dk_at dksX1_promise_0 16 rfl rfl)
theorem dX1_promise_17 : decode cX1_promise 17 = .ok (.getfield 184, 3) := dk_180 0 184 (dk_at dksX1_promise_0 17 rfl rfl)
theorem dX1_promise_20 : decode cX1_promise 20 = .ok (.getstatic 200, 3) := dk_178 0 200 (dk_at dksX1_promise_0 20 rfl rfl)
theorem dX1_promise_23 : decode cX1_promise 23 = .ok (.if_acmp .ne 7, 3) := dk_166 0 7 (dk_at dksX1_promise_1 0 rfl rfl)
theorem dX1_promise_26 : decode cX1_promise 26 = .ok (.iconst 1, 1) := dk_4 (dk_at dksX1_promise_1 3 rfl rfl)
theorem dX1_promise_27 : decode cX1_promise 27 = .ok (.goto 4, 3) := dk_167 0 4 (dk_at dksX1_promise_1 4 rfl rfl)
theorem dX1_promise_30 : decode cX1_promise 30 = .ok (.iconst 0, 1) := dk_3 (dk_at dksX1_promise_1 7 rfl rfl)
theorem dX1_promise_31 : decode cX1_promise 31 = .ok (.invokestatic 92, 3) := dk_184 0 92 (dk_at dksX1_promise_1 8 rfl rfl)
theorem dX1_promise_34 : decode cX1_promise 34 = .ok (.aload_n 0, 1) := dk_42 (dk_at dksX1_promise_1 11 rfl rfl)
theorem dX1_promise_35 : decode cX1_promise 35 = .ok (.aload_n 2, 1) := dk_44 (dk_at dksX1_promise_1 12 rfl rfl)
theorem dX1_promise_36 : decode cX1_promise 36 = .ok (.invokevirtual 275, 3) := dk_182 1 19 (dk_at dksX1_promise_1 13 rfl rfl)
theorem dX1_promise_39 : decode cX1_promise 39 = .ok (.ireturn, 1) := dk_172 (dk_at dksX1_promise_1 16 rfl rfl)
abbrev cX1_theOrder : ByteArray := prog_1_method_29_code
def yX1_theOrder : MethodName := ⟨RX1, "theOrder", "(I)LFoundrymark$Order;"⟩
def dkwX1_theOrder_1 : List UInt8 := [182, 0, 82, 192, 0, 151, 176]
abbrev dktX1_theOrder_1 : List UInt8 := dkwX1_theOrder_1 ++ []
def dkwX1_theOrder_0 : List UInt8 := [27, 3, 42, 180, 0, 37, 182, 0, 55, 4, 100, 184, 0, 47, 184, 0, 79, 42, 180, 0, 37, 27]
abbrev dktX1_theOrder_0 : List UInt8 := dkwX1_theOrder_0 ++ dktX1_theOrder_1
theorem dksX1_theOrder_0 : cX1_theOrder.data.toList.drop 0 = dktX1_theOrder_0 := by decide +kernel
theorem dksX1_theOrder_1 : cX1_theOrder.data.toList.drop 22 = dktX1_theOrder_1 := dk_seg dksX1_theOrder_0 22 rfl rfl
theorem dX1_theOrder_0 : decode cX1_theOrder 0 = .ok (.iload_n 1, 1) := dk_27 (dk_at dksX1_theOrder_0 0 rfl rfl)
theorem dX1_theOrder_1 : decode cX1_theOrder 1 = .ok (.iconst 0, 1) := dk_3 (dk_at dksX1_theOrder_0 1 rfl rfl)
theorem dX1_theOrder_2 : decode cX1_theOrder 2 = .ok (.aload_n 0, 1) := dk_42 (dk_at dksX1_theOrder_0 2 rfl rfl)
theorem dX1_theOrder_3 : decode cX1_theOrder 3 = .ok (.getfield 37, 3) := dk_180 0 37 (dk_at dksX1_theOrder_0 3 rfl rfl)
theorem dX1_theOrder_6 : decode cX1_theOrder 6 = .ok (.invokevirtual 55, 3) := dk_182 0 55 (dk_at dksX1_theOrder_0 6 rfl rfl)
theorem dX1_theOrder_9 : decode cX1_theOrder 9 = .ok (.iconst 1, 1) := dk_4 (dk_at dksX1_theOrder_0 9 rfl rfl)
theorem dX1_theOrder_10 : decode cX1_theOrder 10 = .ok (.isub, 1) := dk_100 (dk_at dksX1_theOrder_0 10 rfl rfl)
theorem dX1_theOrder_11 : decode cX1_theOrder 11 = .ok (.invokestatic 47, 3) := dk_184 0 47 (dk_at dksX1_theOrder_0 11 rfl rfl)
theorem dX1_theOrder_14 : decode cX1_theOrder 14 = .ok (.invokestatic 79, 3) := dk_184 0 79 (dk_at dksX1_theOrder_0 14 rfl rfl)
theorem dX1_theOrder_17 : decode cX1_theOrder 17 = .ok (.aload_n 0, 1) := dk_42 (dk_at dksX1_theOrder_0 17 rfl rfl)
theorem dX1_theOrder_18 : decode cX1_theOrder 18 = .ok (.getfield 37, 3) := dk_180 0 37 (dk_at dksX1_theOrder_0 18 rfl rfl)
theorem dX1_theOrder_21 : decode cX1_theOrder 21 = .ok (.iload_n 1, 1) := dk_27 (dk_at dksX1_theOrder_0 21 rfl rfl)
theorem dX1_theOrder_22 : decode cX1_theOrder 22 = .ok (.invokevirtual 82, 3) := dk_182 0 82 (dk_at dksX1_theOrder_1 0 rfl rfl)
theorem dX1_theOrder_25 : decode cX1_theOrder 25 = .ok (.checkcast 151, 3) := dk_192 0 151 (dk_at dksX1_theOrder_1 3 rfl rfl)
theorem dX1_theOrder_28 : decode cX1_theOrder 28 = .ok (.areturn, 1) := dk_176 (dk_at dksX1_theOrder_1 6 rfl rfl)
abbrev cX1_reserveAll : ByteArray := prog_1_method_32_code
def yX1_reserveAll : MethodName := ⟨RX1, "reserveAll", "(LFoundrymark$Order;)Z"⟩
def dkwX1_reserveAll_3 : List UInt8 := [181, 0, 184, 4, 172, 77, 42, 43, 182, 0, 196, 3, 172]
abbrev dktX1_reserveAll_3 : List UInt8 := dkwX1_reserveAll_3 ++ []
def dkwX1_reserveAll_2 : List UInt8 := [180, 1, 5, 43, 180, 1, 7, 45, 180, 1, 10, 104, 182, 1, 11, 167, 255, 208, 43, 178, 0, 188]
abbrev dktX1_reserveAll_2 : List UInt8 := dkwX1_reserveAll_2 ++ dktX1_reserveAll_3
def dkwX1_reserveAll_1 : List UInt8 := [185, 0, 165, 1, 0, 192, 0, 98, 78, 45, 43, 180, 0, 255, 182, 1, 2, 153, 0, 21, 42, 43, 45]
abbrev dktX1_reserveAll_1 : List UInt8 := dkwX1_reserveAll_1 ++ dktX1_reserveAll_2
def dkwX1_reserveAll_0 : List UInt8 := [43, 180, 0, 254, 192, 0, 71, 180, 0, 95, 182, 0, 155, 77, 44, 185, 0, 159, 1, 0, 153, 0, 45, 44]
abbrev dktX1_reserveAll_0 : List UInt8 := dkwX1_reserveAll_0 ++ dktX1_reserveAll_1
theorem dksX1_reserveAll_0 : cX1_reserveAll.data.toList.drop 0 = dktX1_reserveAll_0 := by decide +kernel
theorem dksX1_reserveAll_1 : cX1_reserveAll.data.toList.drop 24 = dktX1_reserveAll_1 := dk_seg dksX1_reserveAll_0 24 rfl rfl
theorem dksX1_reserveAll_2 : cX1_reserveAll.data.toList.drop 47 = dktX1_reserveAll_2 := dk_seg dksX1_reserveAll_1 23 rfl rfl
theorem dksX1_reserveAll_3 : cX1_reserveAll.data.toList.drop 69 = dktX1_reserveAll_3 := dk_seg dksX1_reserveAll_2 22 rfl rfl
theorem dX1_reserveAll_0 : decode cX1_reserveAll 0 = .ok (.aload_n 1, 1) := dk_43 (dk_at dksX1_reserveAll_0 0 rfl rfl)
theorem dX1_reserveAll_1 : decode cX1_reserveAll 1 = .ok (.getfield 254, 3) := dk_180 0 254 (dk_at dksX1_reserveAll_0 1 rfl rfl)
theorem dX1_reserveAll_4 : decode cX1_reserveAll 4 = .ok (.checkcast 71, 3) := dk_192 0 71 (dk_at dksX1_reserveAll_0 4 rfl rfl)
theorem dX1_reserveAll_7 : decode cX1_reserveAll 7 = .ok (.getfield 95, 3) := dk_180 0 95 (dk_at dksX1_reserveAll_0 7 rfl rfl)
theorem dX1_reserveAll_10 : decode cX1_reserveAll 10 = .ok (.invokevirtual 155, 3) := dk_182 0 155 (dk_at dksX1_reserveAll_0 10 rfl rfl)
theorem dX1_reserveAll_13 : decode cX1_reserveAll 13 = .ok (.astore_n 2, 1) := dk_77 (dk_at dksX1_reserveAll_0 13 rfl rfl)
theorem dX1_reserveAll_14 : decode cX1_reserveAll 14 = .ok (.aload_n 2, 1) := dk_44 (dk_at dksX1_reserveAll_0 14 rfl rfl)
theorem dX1_reserveAll_15 : decode cX1_reserveAll 15 = .ok (.invokeinterface 159 1, 5) := by decide +kernel
theorem dX1_reserveAll_20 : decode cX1_reserveAll 20 = .ok (.ifCond .eq 45, 3) := dk_153 0 45 (dk_at dksX1_reserveAll_0 20 rfl rfl)
theorem dX1_reserveAll_23 : decode cX1_reserveAll 23 = .ok (.aload_n 2, 1) := dk_44 (dk_at dksX1_reserveAll_0 23 rfl rfl)
theorem dX1_reserveAll_24 : decode cX1_reserveAll 24 = .ok (.invokeinterface 165 1, 5) := by decide +kernel
theorem dX1_reserveAll_29 : decode cX1_reserveAll 29 = .ok (.checkcast 98, 3) := dk_192 0 98 (dk_at dksX1_reserveAll_1 5 rfl rfl)
theorem dX1_reserveAll_32 : decode cX1_reserveAll 32 = .ok (.astore_n 3, 1) := dk_78 (dk_at dksX1_reserveAll_1 8 rfl rfl)
theorem dX1_reserveAll_33 : decode cX1_reserveAll 33 = .ok (.aload_n 3, 1) := dk_45 (dk_at dksX1_reserveAll_1 9 rfl rfl)
theorem dX1_reserveAll_34 : decode cX1_reserveAll 34 = .ok (.aload_n 1, 1) := dk_43 (dk_at dksX1_reserveAll_1 10 rfl rfl)
theorem dX1_reserveAll_35 : decode cX1_reserveAll 35 = .ok (.getfield 255, 3) := dk_180 0 255 (dk_at dksX1_reserveAll_1 11 rfl rfl)
theorem dX1_reserveAll_38 : decode cX1_reserveAll 38 = .ok (.invokevirtual 258, 3) := dk_182 1 2 (dk_at dksX1_reserveAll_1 14 rfl rfl)
theorem dX1_reserveAll_41 : decode cX1_reserveAll 41 = .ok (.ifCond .eq 21, 3) := dk_153 0 21 (dk_at dksX1_reserveAll_1 17 rfl rfl)
theorem dX1_reserveAll_44 : decode cX1_reserveAll 44 = .ok (.aload_n 0, 1) := dk_42 (dk_at dksX1_reserveAll_1 20 rfl rfl)
theorem dX1_reserveAll_45 : decode cX1_reserveAll 45 = .ok (.aload_n 1, 1) := dk_43 (dk_at dksX1_reserveAll_1 21 rfl rfl)
theorem dX1_reserveAll_46 : decode cX1_reserveAll 46 = .ok (.aload_n 3, 1) := dk_45 (dk_at dksX1_reserveAll_1 22 rfl rfl)
theorem dX1_reserveAll_47 : decode cX1_reserveAll 47 = .ok (.getfield 261, 3) := dk_180 1 5 (dk_at dksX1_reserveAll_2 0 rfl rfl)
theorem dX1_reserveAll_50 : decode cX1_reserveAll 50 = .ok (.aload_n 1, 1) := dk_43 (dk_at dksX1_reserveAll_2 3 rfl rfl)
theorem dX1_reserveAll_51 : decode cX1_reserveAll 51 = .ok (.getfield 263, 3) := dk_180 1 7 (dk_at dksX1_reserveAll_2 4 rfl rfl)
theorem dX1_reserveAll_54 : decode cX1_reserveAll 54 = .ok (.aload_n 3, 1) := dk_45 (dk_at dksX1_reserveAll_2 7 rfl rfl)
theorem dX1_reserveAll_55 : decode cX1_reserveAll 55 = .ok (.getfield 266, 3) := dk_180 1 10 (dk_at dksX1_reserveAll_2 8 rfl rfl)
theorem dX1_reserveAll_58 : decode cX1_reserveAll 58 = .ok (.imul, 1) := dk_104 (dk_at dksX1_reserveAll_2 11 rfl rfl)
theorem dX1_reserveAll_59 : decode cX1_reserveAll 59 = .ok (.invokevirtual 267, 3) := dk_182 1 11 (dk_at dksX1_reserveAll_2 12 rfl rfl)
theorem dX1_reserveAll_62 : decode cX1_reserveAll 62 = .ok (.goto (-48), 3) := dk_167 255 208 (dk_at dksX1_reserveAll_2 15 rfl rfl)
theorem dX1_reserveAll_65 : decode cX1_reserveAll 65 = .ok (.aload_n 1, 1) := dk_43 (dk_at dksX1_reserveAll_2 18 rfl rfl)
theorem dX1_reserveAll_66 : decode cX1_reserveAll 66 = .ok (.getstatic 188, 3) := dk_178 0 188 (dk_at dksX1_reserveAll_2 19 rfl rfl)
theorem dX1_reserveAll_69 : decode cX1_reserveAll 69 = .ok (.putfield 184, 3) := dk_181 0 184 (dk_at dksX1_reserveAll_3 0 rfl rfl)
theorem dX1_reserveAll_72 : decode cX1_reserveAll 72 = .ok (.iconst 1, 1) := dk_4 (dk_at dksX1_reserveAll_3 3 rfl rfl)
theorem dX1_reserveAll_73 : decode cX1_reserveAll 73 = .ok (.ireturn, 1) := dk_172 (dk_at dksX1_reserveAll_3 4 rfl rfl)
theorem dX1_reserveAll_74 : decode cX1_reserveAll 74 = .ok (.astore_n 2, 1) := dk_77 (dk_at dksX1_reserveAll_3 5 rfl rfl)
theorem dX1_reserveAll_75 : decode cX1_reserveAll 75 = .ok (.aload_n 0, 1) := dk_42 (dk_at dksX1_reserveAll_3 6 rfl rfl)
theorem dX1_reserveAll_76 : decode cX1_reserveAll 76 = .ok (.aload_n 1, 1) := dk_43 (dk_at dksX1_reserveAll_3 7 rfl rfl)
theorem dX1_reserveAll_77 : decode cX1_reserveAll 77 = .ok (.invokevirtual 196, 3) := dk_182 0 196 (dk_at dksX1_reserveAll_3 8 rfl rfl)
theorem dX1_reserveAll_80 : decode cX1_reserveAll 80 = .ok (.iconst 0, 1) := dk_3 (dk_at dksX1_reserveAll_3 11 rfl rfl)
theorem dX1_reserveAll_81 : decode cX1_reserveAll 81 = .ok (.ireturn, 1) := dk_172 (dk_at dksX1_reserveAll_3 12 rfl rfl)
abbrev cX1_reserve : ByteArray := prog_1_method_31_code
def yX1_reserve : MethodName := ⟨RX1, "reserve", "(LFoundrymark$Order;II)V"⟩
def dkwX1_reserve_5 : List UInt8 := [182, 0, 67, 87, 167, 255, 149, 21, 4, 158, 0, 12, 187, 0, 249, 89, 1, 183, 0, 251, 191, 177]
abbrev dktX1_reserve_5 : List UInt8 := dkwX1_reserve_5 ++ []
def dkwX1_reserve_4 : List UInt8 := [21, 4, 21, 7, 100, 54, 4, 43, 180, 0, 150, 187, 0, 169, 89, 25, 6, 21, 7, 183, 0, 246]
abbrev dktX1_reserve_4 : List UInt8 := dkwX1_reserve_4 ++ dktX1_reserve_5
def dkwX1_reserve_3 : List UInt8 := [167, 0, 4, 3, 54, 7, 21, 7, 158, 0, 41, 25, 6, 89, 180, 0, 175, 21, 7, 96, 181, 0, 175]
abbrev dktX1_reserve_3 : List UInt8 := dkwX1_reserve_3 ++ dktX1_reserve_4
def dkwX1_reserve_2 : List UInt8 := [182, 0, 193, 154, 0, 22, 25, 6, 180, 0, 231, 25, 6, 180, 0, 175, 100, 21, 4, 184, 0, 240]
abbrev dktX1_reserve_2 : List UInt8 := dkwX1_reserve_2 ++ dktX1_reserve_3
def dkwX1_reserve_1 : List UInt8 := [185, 0, 165, 1, 0, 192, 0, 113, 58, 6, 25, 6, 180, 0, 224, 180, 0, 230, 28, 160, 0, 30, 25, 6]
abbrev dktX1_reserve_1 : List UInt8 := dkwX1_reserve_1 ++ dktX1_reserve_2
def dkwX1_reserve_0 : List UInt8 := [29, 54, 4, 42, 180, 0, 34, 182, 0, 155, 58, 5, 25, 5, 185, 0, 159, 1, 0, 153, 0, 103, 25, 5]
abbrev dktX1_reserve_0 : List UInt8 := dkwX1_reserve_0 ++ dktX1_reserve_1
theorem dksX1_reserve_0 : cX1_reserve.data.toList.drop 0 = dktX1_reserve_0 := by decide +kernel
theorem dksX1_reserve_1 : cX1_reserve.data.toList.drop 24 = dktX1_reserve_1 := dk_seg dksX1_reserve_0 24 rfl rfl
theorem dksX1_reserve_2 : cX1_reserve.data.toList.drop 48 = dktX1_reserve_2 := dk_seg dksX1_reserve_1 24 rfl rfl
theorem dksX1_reserve_3 : cX1_reserve.data.toList.drop 70 = dktX1_reserve_3 := dk_seg dksX1_reserve_2 22 rfl rfl
theorem dksX1_reserve_4 : cX1_reserve.data.toList.drop 93 = dktX1_reserve_4 := dk_seg dksX1_reserve_3 23 rfl rfl
theorem dksX1_reserve_5 : cX1_reserve.data.toList.drop 115 = dktX1_reserve_5 := dk_seg dksX1_reserve_4 22 rfl rfl
theorem dX1_reserve_0 : decode cX1_reserve 0 = .ok (.iload_n 3, 1) := dk_29 (dk_at dksX1_reserve_0 0 rfl rfl)
theorem dX1_reserve_1 : decode cX1_reserve 1 = .ok (.istore 4, 2) := dk_54 4 (dk_at dksX1_reserve_0 1 rfl rfl)
theorem dX1_reserve_3 : decode cX1_reserve 3 = .ok (.aload_n 0, 1) := dk_42 (dk_at dksX1_reserve_0 3 rfl rfl)
theorem dX1_reserve_4 : decode cX1_reserve 4 = .ok (.getfield 34, 3) := dk_180 0 34 (dk_at dksX1_reserve_0 4 rfl rfl)
theorem dX1_reserve_7 : decode cX1_reserve 7 = .ok (.invokevirtual 155, 3) := dk_182 0 155 (dk_at dksX1_reserve_0 7 rfl rfl)
theorem dX1_reserve_10 : decode cX1_reserve 10 = .ok (.astore 5, 2) := dk_58 5 (dk_at dksX1_reserve_0 10 rfl rfl)
theorem dX1_reserve_12 : decode cX1_reserve 12 = .ok (.aload 5, 2) := dk_25 5 (dk_at dksX1_reserve_0 12 rfl rfl)
theorem dX1_reserve_14 : decode cX1_reserve 14 = .ok (.invokeinterface 159 1, 5) := by decide +kernel
theorem dX1_reserve_19 : decode cX1_reserve 19 = .ok (.ifCond .eq 103, 3) := dk_153 0 103 (dk_at dksX1_reserve_0 19 rfl rfl)
theorem dX1_reserve_22 : decode cX1_reserve 22 = .ok (.aload 5, 2) := dk_25 5 (dk_at dksX1_reserve_0 22 rfl rfl)
theorem dX1_reserve_24 : decode cX1_reserve 24 = .ok (.invokeinterface 165 1, 5) := by decide +kernel
theorem dX1_reserve_29 : decode cX1_reserve 29 = .ok (.checkcast 113, 3) := dk_192 0 113 (dk_at dksX1_reserve_1 5 rfl rfl)
theorem dX1_reserve_32 : decode cX1_reserve 32 = .ok (.astore 6, 2) := dk_58 6 (dk_at dksX1_reserve_1 8 rfl rfl)
theorem dX1_reserve_34 : decode cX1_reserve 34 = .ok (.aload 6, 2) := dk_25 6 (dk_at dksX1_reserve_1 10 rfl rfl)
theorem dX1_reserve_36 : decode cX1_reserve 36 = .ok (.getfield 224, 3) := dk_180 0 224 (dk_at dksX1_reserve_1 12 rfl rfl)
theorem dX1_reserve_39 : decode cX1_reserve 39 = .ok (.getfield 230, 3) := dk_180 0 230 (dk_at dksX1_reserve_1 15 rfl rfl)
theorem dX1_reserve_42 : decode cX1_reserve 42 = .ok (.iload_n 2, 1) := dk_28 (dk_at dksX1_reserve_1 18 rfl rfl)
theorem dX1_reserve_43 : decode cX1_reserve 43 = .ok (.if_icmp .ne 30, 3) := dk_160 0 30 (dk_at dksX1_reserve_1 19 rfl rfl)
theorem dX1_reserve_46 : decode cX1_reserve 46 = .ok (.aload 6, 2) := dk_25 6 (dk_at dksX1_reserve_1 22 rfl rfl)
theorem dX1_reserve_48 : decode cX1_reserve 48 = .ok (.invokevirtual 193, 3) := dk_182 0 193 (dk_at dksX1_reserve_2 0 rfl rfl)
theorem dX1_reserve_51 : decode cX1_reserve 51 = .ok (.ifCond .ne 22, 3) := dk_154 0 22 (dk_at dksX1_reserve_2 3 rfl rfl)
theorem dX1_reserve_54 : decode cX1_reserve 54 = .ok (.aload 6, 2) := dk_25 6 (dk_at dksX1_reserve_2 6 rfl rfl)
theorem dX1_reserve_56 : decode cX1_reserve 56 = .ok (.getfield 231, 3) := dk_180 0 231 (dk_at dksX1_reserve_2 8 rfl rfl)
theorem dX1_reserve_59 : decode cX1_reserve 59 = .ok (.aload 6, 2) := dk_25 6 (dk_at dksX1_reserve_2 11 rfl rfl)
theorem dX1_reserve_61 : decode cX1_reserve 61 = .ok (.getfield 175, 3) := dk_180 0 175 (dk_at dksX1_reserve_2 13 rfl rfl)
theorem dX1_reserve_64 : decode cX1_reserve 64 = .ok (.isub, 1) := dk_100 (dk_at dksX1_reserve_2 16 rfl rfl)
theorem dX1_reserve_65 : decode cX1_reserve 65 = .ok (.iload 4, 2) := dk_21 4 (dk_at dksX1_reserve_2 17 rfl rfl)
theorem dX1_reserve_67 : decode cX1_reserve 67 = .ok (.invokestatic 240, 3) := dk_184 0 240 (dk_at dksX1_reserve_2 19 rfl rfl)
theorem dX1_reserve_70 : decode cX1_reserve 70 = .ok (.goto 4, 3) := dk_167 0 4 (dk_at dksX1_reserve_3 0 rfl rfl)
theorem dX1_reserve_73 : decode cX1_reserve 73 = .ok (.iconst 0, 1) := dk_3 (dk_at dksX1_reserve_3 3 rfl rfl)
theorem dX1_reserve_74 : decode cX1_reserve 74 = .ok (.istore 7, 2) := dk_54 7 (dk_at dksX1_reserve_3 4 rfl rfl)
theorem dX1_reserve_76 : decode cX1_reserve 76 = .ok (.iload 7, 2) := dk_21 7 (dk_at dksX1_reserve_3 6 rfl rfl)
theorem dX1_reserve_78 : decode cX1_reserve 78 = .ok (.ifCond .le 41, 3) := dk_158 0 41 (dk_at dksX1_reserve_3 8 rfl rfl)
theorem dX1_reserve_81 : decode cX1_reserve 81 = .ok (.aload 6, 2) := dk_25 6 (dk_at dksX1_reserve_3 11 rfl rfl)
theorem dX1_reserve_83 : decode cX1_reserve 83 = .ok (.dup, 1) := dk_89 (dk_at dksX1_reserve_3 13 rfl rfl)
theorem dX1_reserve_84 : decode cX1_reserve 84 = .ok (.getfield 175, 3) := dk_180 0 175 (dk_at dksX1_reserve_3 14 rfl rfl)
theorem dX1_reserve_87 : decode cX1_reserve 87 = .ok (.iload 7, 2) := dk_21 7 (dk_at dksX1_reserve_3 17 rfl rfl)
theorem dX1_reserve_89 : decode cX1_reserve 89 = .ok (.iadd, 1) := dk_96 (dk_at dksX1_reserve_3 19 rfl rfl)
theorem dX1_reserve_90 : decode cX1_reserve 90 = .ok (.putfield 175, 3) := dk_181 0 175 (dk_at dksX1_reserve_3 20 rfl rfl)
theorem dX1_reserve_93 : decode cX1_reserve 93 = .ok (.iload 4, 2) := dk_21 4 (dk_at dksX1_reserve_4 0 rfl rfl)
theorem dX1_reserve_95 : decode cX1_reserve 95 = .ok (.iload 7, 2) := dk_21 7 (dk_at dksX1_reserve_4 2 rfl rfl)
theorem dX1_reserve_97 : decode cX1_reserve 97 = .ok (.isub, 1) := dk_100 (dk_at dksX1_reserve_4 4 rfl rfl)
theorem dX1_reserve_98 : decode cX1_reserve 98 = .ok (.istore 4, 2) := dk_54 4 (dk_at dksX1_reserve_4 5 rfl rfl)
theorem dX1_reserve_100 : decode cX1_reserve 100 = .ok (.aload_n 1, 1) := dk_43 (dk_at dksX1_reserve_4 7 rfl rfl)
theorem dX1_reserve_101 : decode cX1_reserve 101 = .ok (.getfield 150, 3) := dk_180 0 150 (dk_at dksX1_reserve_4 8 rfl rfl)
theorem dX1_reserve_104 : decode cX1_reserve 104 = .ok (.new 169, 3) := dk_187 0 169 (dk_at dksX1_reserve_4 11 rfl rfl)
theorem dX1_reserve_107 : decode cX1_reserve 107 = .ok (.dup, 1) := dk_89 (dk_at dksX1_reserve_4 14 rfl rfl)
theorem dX1_reserve_108 : decode cX1_reserve 108 = .ok (.aload 6, 2) := dk_25 6 (dk_at dksX1_reserve_4 15 rfl rfl)
theorem dX1_reserve_110 : decode cX1_reserve 110 = .ok (.iload 7, 2) := dk_21 7 (dk_at dksX1_reserve_4 17 rfl rfl)
theorem dX1_reserve_112 : decode cX1_reserve 112 = .ok (.invokespecial 246, 3) := dk_183 0 246 (dk_at dksX1_reserve_4 19 rfl rfl)
theorem dX1_reserve_115 : decode cX1_reserve 115 = .ok (.invokevirtual 67, 3) := dk_182 0 67 (dk_at dksX1_reserve_5 0 rfl rfl)
theorem dX1_reserve_118 : decode cX1_reserve 118 = .ok (.pop, 1) := dk_87 (dk_at dksX1_reserve_5 3 rfl rfl)
theorem dX1_reserve_119 : decode cX1_reserve 119 = .ok (.goto (-107), 3) := dk_167 255 149 (dk_at dksX1_reserve_5 4 rfl rfl)
theorem dX1_reserve_122 : decode cX1_reserve 122 = .ok (.iload 4, 2) := dk_21 4 (dk_at dksX1_reserve_5 7 rfl rfl)
theorem dX1_reserve_124 : decode cX1_reserve 124 = .ok (.ifCond .le 12, 3) := dk_158 0 12 (dk_at dksX1_reserve_5 9 rfl rfl)
theorem dX1_reserve_127 : decode cX1_reserve 127 = .ok (.new 249, 3) := dk_187 0 249 (dk_at dksX1_reserve_5 12 rfl rfl)
theorem dX1_reserve_130 : decode cX1_reserve 130 = .ok (.dup, 1) := dk_89 (dk_at dksX1_reserve_5 15 rfl rfl)
theorem dX1_reserve_131 : decode cX1_reserve 131 = .ok (.aconst_null, 1) := dk_1 (dk_at dksX1_reserve_5 16 rfl rfl)
theorem dX1_reserve_132 : decode cX1_reserve 132 = .ok (.invokespecial 251, 3) := dk_183 0 251 (dk_at dksX1_reserve_5 17 rfl rfl)
theorem dX1_reserve_135 : decode cX1_reserve 135 = .ok (.athrow, 1) := dk_191 (dk_at dksX1_reserve_5 20 rfl rfl)
theorem dX1_reserve_136 : decode cX1_reserve 136 = .ok (.return_, 1) := dk_177 (dk_at dksX1_reserve_5 21 rfl rfl)
abbrev cX1_withdraw : ByteArray := prog_1_method_34_code
def yX1_withdraw : MethodName := ⟨RX1, "withdraw", "(I)I"⟩
def dkwX1_withdraw_3 : List UInt8 := [182, 0, 196, 44, 178, 0, 200, 181, 0, 184, 29, 172]
abbrev dktX1_withdraw_3 : List UInt8 := dkwX1_withdraw_3 ++ []
def dkwX1_withdraw_2 : List UInt8 := [185, 0, 165, 1, 0, 192, 0, 169, 58, 5, 29, 25, 5, 180, 0, 178, 96, 62, 167, 255, 226, 42, 44]
abbrev dktX1_withdraw_2 : List UInt8 := dkwX1_withdraw_2 ++ dktX1_withdraw_3
def dkwX1_withdraw_1 : List UInt8 := [3, 62, 44, 180, 0, 150, 182, 0, 155, 58, 4, 25, 4, 185, 0, 159, 1, 0, 153, 0, 26, 25, 4]
abbrev dktX1_withdraw_1 : List UInt8 := dkwX1_withdraw_1 ++ dktX1_withdraw_2
def dkwX1_withdraw_0 : List UInt8 := [42, 27, 182, 1, 15, 77, 44, 180, 0, 184, 178, 0, 188, 166, 0, 7, 4, 167, 0, 4, 3, 184, 0, 92]
abbrev dktX1_withdraw_0 : List UInt8 := dkwX1_withdraw_0 ++ dktX1_withdraw_1
theorem dksX1_withdraw_0 : cX1_withdraw.data.toList.drop 0 = dktX1_withdraw_0 := by decide +kernel
theorem dksX1_withdraw_1 : cX1_withdraw.data.toList.drop 24 = dktX1_withdraw_1 := dk_seg dksX1_withdraw_0 24 rfl rfl
theorem dksX1_withdraw_2 : cX1_withdraw.data.toList.drop 47 = dktX1_withdraw_2 := dk_seg dksX1_withdraw_1 23 rfl rfl
theorem dksX1_withdraw_3 : cX1_withdraw.data.toList.drop 70 = dktX1_withdraw_3 := dk_seg dksX1_withdraw_2 23 rfl rfl
theorem dX1_withdraw_0 : decode cX1_withdraw 0 = .ok (.aload_n 0, 1) := dk_42 (dk_at dksX1_withdraw_0 0 rfl rfl)
theorem dX1_withdraw_1 : decode cX1_withdraw 1 = .ok (.iload_n 1, 1) := dk_27 (dk_at dksX1_withdraw_0 1 rfl rfl)
theorem dX1_withdraw_2 : decode cX1_withdraw 2 = .ok (.invokevirtual 271, 3) := dk_182 1 15 (dk_at dksX1_withdraw_0 2 rfl rfl)
theorem dX1_withdraw_5 : decode cX1_withdraw 5 = .ok (.astore_n 2, 1) := dk_77 (dk_at dksX1_withdraw_0 5 rfl rfl)
theorem dX1_withdraw_6 : decode cX1_withdraw 6 = .ok (.aload_n 2, 1) := dk_44 (dk_at dksX1_withdraw_0 6 rfl rfl)
theorem dX1_withdraw_7 : decode cX1_withdraw 7 = .ok (.getfield 184, 3) := dk_180 0 184 (dk_at dksX1_withdraw_0 7 rfl rfl)
theorem dX1_withdraw_10 : decode cX1_withdraw 10 = .ok (.getstatic 188, 3) := dk_178 0 188 (dk_at dksX1_withdraw_0 10 rfl rfl)
theorem dX1_withdraw_13 : decode cX1_withdraw 13 = .ok (.if_acmp .ne 7, 3) := dk_166 0 7 (dk_at dksX1_withdraw_0 13 rfl rfl)
theorem dX1_withdraw_16 : decode cX1_withdraw 16 = .ok (.iconst 1, 1) := dk_4 (dk_at dksX1_withdraw_0 16 rfl rfl)
theorem dX1_withdraw_17 : decode cX1_withdraw 17 = .ok (.goto 4, 3) := dk_167 0 4 (dk_at dksX1_withdraw_0 17 rfl rfl)
theorem dX1_withdraw_20 : decode cX1_withdraw 20 = .ok (.iconst 0, 1) := dk_3 (dk_at dksX1_withdraw_0 20 rfl rfl)
theorem dX1_withdraw_21 : decode cX1_withdraw 21 = .ok (.invokestatic 92, 3) := dk_184 0 92 (dk_at dksX1_withdraw_0 21 rfl rfl)
theorem dX1_withdraw_24 : decode cX1_withdraw 24 = .ok (.iconst 0, 1) := dk_3 (dk_at dksX1_withdraw_1 0 rfl rfl)
theorem dX1_withdraw_25 : decode cX1_withdraw 25 = .ok (.istore_n 3, 1) := dk_62 (dk_at dksX1_withdraw_1 1 rfl rfl)
theorem dX1_withdraw_26 : decode cX1_withdraw 26 = .ok (.aload_n 2, 1) := dk_44 (dk_at dksX1_withdraw_1 2 rfl rfl)
theorem dX1_withdraw_27 : decode cX1_withdraw 27 = .ok (.getfield 150, 3) := dk_180 0 150 (dk_at dksX1_withdraw_1 3 rfl rfl)
theorem dX1_withdraw_30 : decode cX1_withdraw 30 = .ok (.invokevirtual 155, 3) := dk_182 0 155 (dk_at dksX1_withdraw_1 6 rfl rfl)
theorem dX1_withdraw_33 : decode cX1_withdraw 33 = .ok (.astore 4, 2) := dk_58 4 (dk_at dksX1_withdraw_1 9 rfl rfl)
theorem dX1_withdraw_35 : decode cX1_withdraw 35 = .ok (.aload 4, 2) := dk_25 4 (dk_at dksX1_withdraw_1 11 rfl rfl)
theorem dX1_withdraw_37 : decode cX1_withdraw 37 = .ok (.invokeinterface 159 1, 5) := by decide +kernel
theorem dX1_withdraw_42 : decode cX1_withdraw 42 = .ok (.ifCond .eq 26, 3) := dk_153 0 26 (dk_at dksX1_withdraw_1 18 rfl rfl)
theorem dX1_withdraw_45 : decode cX1_withdraw 45 = .ok (.aload 4, 2) := dk_25 4 (dk_at dksX1_withdraw_1 21 rfl rfl)
theorem dX1_withdraw_47 : decode cX1_withdraw 47 = .ok (.invokeinterface 165 1, 5) := by decide +kernel
theorem dX1_withdraw_52 : decode cX1_withdraw 52 = .ok (.checkcast 169, 3) := dk_192 0 169 (dk_at dksX1_withdraw_2 5 rfl rfl)
theorem dX1_withdraw_55 : decode cX1_withdraw 55 = .ok (.astore 5, 2) := dk_58 5 (dk_at dksX1_withdraw_2 8 rfl rfl)
theorem dX1_withdraw_57 : decode cX1_withdraw 57 = .ok (.iload_n 3, 1) := dk_29 (dk_at dksX1_withdraw_2 10 rfl rfl)
theorem dX1_withdraw_58 : decode cX1_withdraw 58 = .ok (.aload 5, 2) := dk_25 5 (dk_at dksX1_withdraw_2 11 rfl rfl)
theorem dX1_withdraw_60 : decode cX1_withdraw 60 = .ok (.getfield 178, 3) := dk_180 0 178 (dk_at dksX1_withdraw_2 13 rfl rfl)
theorem dX1_withdraw_63 : decode cX1_withdraw 63 = .ok (.iadd, 1) := dk_96 (dk_at dksX1_withdraw_2 16 rfl rfl)
theorem dX1_withdraw_64 : decode cX1_withdraw 64 = .ok (.istore_n 3, 1) := dk_62 (dk_at dksX1_withdraw_2 17 rfl rfl)
theorem dX1_withdraw_65 : decode cX1_withdraw 65 = .ok (.goto (-30), 3) := dk_167 255 226 (dk_at dksX1_withdraw_2 18 rfl rfl)
theorem dX1_withdraw_68 : decode cX1_withdraw 68 = .ok (.aload_n 0, 1) := dk_42 (dk_at dksX1_withdraw_2 21 rfl rfl)
theorem dX1_withdraw_69 : decode cX1_withdraw 69 = .ok (.aload_n 2, 1) := dk_44 (dk_at dksX1_withdraw_2 22 rfl rfl)
theorem dX1_withdraw_70 : decode cX1_withdraw 70 = .ok (.invokevirtual 196, 3) := dk_182 0 196 (dk_at dksX1_withdraw_3 0 rfl rfl)
theorem dX1_withdraw_73 : decode cX1_withdraw 73 = .ok (.aload_n 2, 1) := dk_44 (dk_at dksX1_withdraw_3 3 rfl rfl)
theorem dX1_withdraw_74 : decode cX1_withdraw 74 = .ok (.getstatic 200, 3) := dk_178 0 200 (dk_at dksX1_withdraw_3 4 rfl rfl)
theorem dX1_withdraw_77 : decode cX1_withdraw 77 = .ok (.putfield 184, 3) := dk_181 0 184 (dk_at dksX1_withdraw_3 7 rfl rfl)
theorem dX1_withdraw_80 : decode cX1_withdraw 80 = .ok (.iload_n 3, 1) := dk_29 (dk_at dksX1_withdraw_3 10 rfl rfl)
theorem dX1_withdraw_81 : decode cX1_withdraw 81 = .ok (.ireturn, 1) := dk_172 (dk_at dksX1_withdraw_3 11 rfl rfl)
abbrev cX1_release : ByteArray := prog_1_method_36_code
def yX1_release : MethodName := ⟨RX1, "release", "(I)Z"⟩
def dkwX1_release_6 : List UInt8 := [44, 44, 180, 1, 7, 181, 1, 35, 42, 44, 182, 1, 36, 42, 182, 1, 39, 4, 172]
abbrev dktX1_release_6 : List UInt8 := dkwX1_release_6 ++ []
def dkwX1_release_5 : List UInt8 := [180, 0, 178, 100, 181, 0, 175, 44, 89, 180, 1, 31, 25, 5, 184, 1, 32, 97, 181, 1, 31, 167, 255, 202]
abbrev dktX1_release_5 : List UInt8 := dkwX1_release_5 ++ dktX1_release_6
def dkwX1_release_4 : List UInt8 := [25, 4, 185, 0, 165, 1, 0, 192, 0, 169, 58, 5, 25, 5, 180, 0, 171, 89, 180, 0, 175, 25, 5]
abbrev dktX1_release_4 : List UInt8 := dkwX1_release_4 ++ dktX1_release_5
def dkwX1_release_3 : List UInt8 := [154, 0, 5, 3, 172, 44, 180, 0, 150, 182, 0, 155, 58, 4, 25, 4, 185, 0, 159, 1, 0, 153, 0, 50]
abbrev dktX1_release_3 : List UInt8 := dkwX1_release_3 ++ dktX1_release_4
def dkwX1_release_2 : List UInt8 := [167, 0, 4, 3, 184, 0, 92, 44, 180, 0, 184, 178, 0, 200, 166, 0, 13, 42, 44, 182, 1, 19]
abbrev dktX1_release_2 : List UInt8 := dkwX1_release_2 ++ dktX1_release_3
def dkwX1_release_1 : List UInt8 := [166, 0, 7, 4, 167, 0, 4, 3, 62, 44, 180, 0, 254, 193, 0, 71, 153, 0, 11, 29, 153, 0, 7, 4]
abbrev dktX1_release_1 : List UInt8 := dkwX1_release_1 ++ dktX1_release_2
def dkwX1_release_0 : List UInt8 := [42, 27, 182, 1, 15, 77, 44, 180, 0, 184, 178, 0, 200, 165, 0, 13, 44, 180, 0, 184, 178, 0, 188]
abbrev dktX1_release_0 : List UInt8 := dkwX1_release_0 ++ dktX1_release_1
theorem dksX1_release_0 : cX1_release.data.toList.drop 0 = dktX1_release_0 := by decide +kernel
theorem dksX1_release_1 : cX1_release.data.toList.drop 23 = dktX1_release_1 := dk_seg dksX1_release_0 23 rfl rfl
theorem dksX1_release_2 : cX1_release.data.toList.drop 47 = dktX1_release_2 := dk_seg dksX1_release_1 24 rfl rfl
theorem dksX1_release_3 : cX1_release.data.toList.drop 69 = dktX1_release_3 := dk_seg dksX1_release_2 22 rfl rfl
theorem dksX1_release_4 : cX1_release.data.toList.drop 93 = dktX1_release_4 := dk_seg dksX1_release_3 24 rfl rfl
theorem dksX1_release_5 : cX1_release.data.toList.drop 116 = dktX1_release_5 := dk_seg dksX1_release_4 23 rfl rfl
theorem dksX1_release_6 : cX1_release.data.toList.drop 140 = dktX1_release_6 := dk_seg dksX1_release_5 24 rfl rfl
theorem dX1_release_0 : decode cX1_release 0 = .ok (.aload_n 0, 1) := dk_42 (dk_at dksX1_release_0 0 rfl rfl)
theorem dX1_release_1 : decode cX1_release 1 = .ok (.iload_n 1, 1) := dk_27 (dk_at dksX1_release_0 1 rfl rfl)
theorem dX1_release_2 : decode cX1_release 2 = .ok (.invokevirtual 271, 3) := dk_182 1 15 (dk_at dksX1_release_0 2 rfl rfl)
theorem dX1_release_5 : decode cX1_release 5 = .ok (.astore_n 2, 1) := dk_77 (dk_at dksX1_release_0 5 rfl rfl)
theorem dX1_release_6 : decode cX1_release 6 = .ok (.aload_n 2, 1) := dk_44 (dk_at dksX1_release_0 6 rfl rfl)
theorem dX1_release_7 : decode cX1_release 7 = .ok (.getfield 184, 3) := dk_180 0 184 (dk_at dksX1_release_0 7 rfl rfl)
theorem dX1_release_10 : decode cX1_release 10 = .ok (.getstatic 200, 3) := dk_178 0 200 (dk_at dksX1_release_0 10 rfl rfl)
theorem dX1_release_13 : decode cX1_release 13 = .ok (.if_acmp .eq 13, 3) := dk_165 0 13 (dk_at dksX1_release_0 13 rfl rfl)
theorem dX1_release_16 : decode cX1_release 16 = .ok (.aload_n 2, 1) := dk_44 (dk_at dksX1_release_0 16 rfl rfl)
theorem dX1_release_17 : decode cX1_release 17 = .ok (.getfield 184, 3) := dk_180 0 184 (dk_at dksX1_release_0 17 rfl rfl)
theorem dX1_release_20 : decode cX1_release 20 = .ok (.getstatic 188, 3) := dk_178 0 188 (dk_at dksX1_release_0 20 rfl rfl)
theorem dX1_release_23 : decode cX1_release 23 = .ok (.if_acmp .ne 7, 3) := dk_166 0 7 (dk_at dksX1_release_1 0 rfl rfl)
theorem dX1_release_26 : decode cX1_release 26 = .ok (.iconst 1, 1) := dk_4 (dk_at dksX1_release_1 3 rfl rfl)
theorem dX1_release_27 : decode cX1_release 27 = .ok (.goto 4, 3) := dk_167 0 4 (dk_at dksX1_release_1 4 rfl rfl)
theorem dX1_release_30 : decode cX1_release 30 = .ok (.iconst 0, 1) := dk_3 (dk_at dksX1_release_1 7 rfl rfl)
theorem dX1_release_31 : decode cX1_release 31 = .ok (.istore_n 3, 1) := dk_62 (dk_at dksX1_release_1 8 rfl rfl)
theorem dX1_release_32 : decode cX1_release 32 = .ok (.aload_n 2, 1) := dk_44 (dk_at dksX1_release_1 9 rfl rfl)
theorem dX1_release_33 : decode cX1_release 33 = .ok (.getfield 254, 3) := dk_180 0 254 (dk_at dksX1_release_1 10 rfl rfl)
theorem dX1_release_36 : decode cX1_release 36 = .ok (.instanceof 71, 3) := dk_193 0 71 (dk_at dksX1_release_1 13 rfl rfl)
theorem dX1_release_39 : decode cX1_release 39 = .ok (.ifCond .eq 11, 3) := dk_153 0 11 (dk_at dksX1_release_1 16 rfl rfl)
theorem dX1_release_42 : decode cX1_release 42 = .ok (.iload_n 3, 1) := dk_29 (dk_at dksX1_release_1 19 rfl rfl)
theorem dX1_release_43 : decode cX1_release 43 = .ok (.ifCond .eq 7, 3) := dk_153 0 7 (dk_at dksX1_release_1 20 rfl rfl)
theorem dX1_release_46 : decode cX1_release 46 = .ok (.iconst 1, 1) := dk_4 (dk_at dksX1_release_1 23 rfl rfl)
theorem dX1_release_47 : decode cX1_release 47 = .ok (.goto 4, 3) := dk_167 0 4 (dk_at dksX1_release_2 0 rfl rfl)
theorem dX1_release_50 : decode cX1_release 50 = .ok (.iconst 0, 1) := dk_3 (dk_at dksX1_release_2 3 rfl rfl)
theorem dX1_release_51 : decode cX1_release 51 = .ok (.invokestatic 92, 3) := dk_184 0 92 (dk_at dksX1_release_2 4 rfl rfl)
theorem dX1_release_54 : decode cX1_release 54 = .ok (.aload_n 2, 1) := dk_44 (dk_at dksX1_release_2 7 rfl rfl)
theorem dX1_release_55 : decode cX1_release 55 = .ok (.getfield 184, 3) := dk_180 0 184 (dk_at dksX1_release_2 8 rfl rfl)
theorem dX1_release_58 : decode cX1_release 58 = .ok (.getstatic 200, 3) := dk_178 0 200 (dk_at dksX1_release_2 11 rfl rfl)
theorem dX1_release_61 : decode cX1_release 61 = .ok (.if_acmp .ne 13, 3) := dk_166 0 13 (dk_at dksX1_release_2 14 rfl rfl)
theorem dX1_release_64 : decode cX1_release 64 = .ok (.aload_n 0, 1) := dk_42 (dk_at dksX1_release_2 17 rfl rfl)
theorem dX1_release_65 : decode cX1_release 65 = .ok (.aload_n 2, 1) := dk_44 (dk_at dksX1_release_2 18 rfl rfl)
theorem dX1_release_66 : decode cX1_release 66 = .ok (.invokevirtual 275, 3) := dk_182 1 19 (dk_at dksX1_release_2 19 rfl rfl)
theorem dX1_release_69 : decode cX1_release 69 = .ok (.ifCond .ne 5, 3) := dk_154 0 5 (dk_at dksX1_release_3 0 rfl rfl)
theorem dX1_release_72 : decode cX1_release 72 = .ok (.iconst 0, 1) := dk_3 (dk_at dksX1_release_3 3 rfl rfl)
theorem dX1_release_73 : decode cX1_release 73 = .ok (.ireturn, 1) := dk_172 (dk_at dksX1_release_3 4 rfl rfl)
theorem dX1_release_74 : decode cX1_release 74 = .ok (.aload_n 2, 1) := dk_44 (dk_at dksX1_release_3 5 rfl rfl)
theorem dX1_release_75 : decode cX1_release 75 = .ok (.getfield 150, 3) := dk_180 0 150 (dk_at dksX1_release_3 6 rfl rfl)
theorem dX1_release_78 : decode cX1_release 78 = .ok (.invokevirtual 155, 3) := dk_182 0 155 (dk_at dksX1_release_3 9 rfl rfl)
theorem dX1_release_81 : decode cX1_release 81 = .ok (.astore 4, 2) := dk_58 4 (dk_at dksX1_release_3 12 rfl rfl)
theorem dX1_release_83 : decode cX1_release 83 = .ok (.aload 4, 2) := dk_25 4 (dk_at dksX1_release_3 14 rfl rfl)
theorem dX1_release_85 : decode cX1_release 85 = .ok (.invokeinterface 159 1, 5) := by decide +kernel
theorem dX1_release_90 : decode cX1_release 90 = .ok (.ifCond .eq 50, 3) := dk_153 0 50 (dk_at dksX1_release_3 21 rfl rfl)
theorem dX1_release_93 : decode cX1_release 93 = .ok (.aload 4, 2) := dk_25 4 (dk_at dksX1_release_4 0 rfl rfl)
theorem dX1_release_95 : decode cX1_release 95 = .ok (.invokeinterface 165 1, 5) := by decide +kernel
theorem dX1_release_100 : decode cX1_release 100 = .ok (.checkcast 169, 3) := dk_192 0 169 (dk_at dksX1_release_4 7 rfl rfl)
theorem dX1_release_103 : decode cX1_release 103 = .ok (.astore 5, 2) := dk_58 5 (dk_at dksX1_release_4 10 rfl rfl)
theorem dX1_release_105 : decode cX1_release 105 = .ok (.aload 5, 2) := dk_25 5 (dk_at dksX1_release_4 12 rfl rfl)
theorem dX1_release_107 : decode cX1_release 107 = .ok (.getfield 171, 3) := dk_180 0 171 (dk_at dksX1_release_4 14 rfl rfl)
theorem dX1_release_110 : decode cX1_release 110 = .ok (.dup, 1) := dk_89 (dk_at dksX1_release_4 17 rfl rfl)
theorem dX1_release_111 : decode cX1_release 111 = .ok (.getfield 175, 3) := dk_180 0 175 (dk_at dksX1_release_4 18 rfl rfl)
theorem dX1_release_114 : decode cX1_release 114 = .ok (.aload 5, 2) := dk_25 5 (dk_at dksX1_release_4 21 rfl rfl)
theorem dX1_release_116 : decode cX1_release 116 = .ok (.getfield 178, 3) := dk_180 0 178 (dk_at dksX1_release_5 0 rfl rfl)
theorem dX1_release_119 : decode cX1_release 119 = .ok (.isub, 1) := dk_100 (dk_at dksX1_release_5 3 rfl rfl)
theorem dX1_release_120 : decode cX1_release 120 = .ok (.putfield 175, 3) := dk_181 0 175 (dk_at dksX1_release_5 4 rfl rfl)
theorem dX1_release_123 : decode cX1_release 123 = .ok (.aload_n 2, 1) := dk_44 (dk_at dksX1_release_5 7 rfl rfl)
theorem dX1_release_124 : decode cX1_release 124 = .ok (.dup, 1) := dk_89 (dk_at dksX1_release_5 8 rfl rfl)
theorem dX1_release_125 : decode cX1_release 125 = .ok (.getfield 287, 3) := dk_180 1 31 (dk_at dksX1_release_5 9 rfl rfl)
theorem dX1_release_128 : decode cX1_release 128 = .ok (.aload 5, 2) := dk_25 5 (dk_at dksX1_release_5 12 rfl rfl)
theorem dX1_release_130 : decode cX1_release 130 = .ok (.invokestatic 288, 3) := dk_184 1 32 (dk_at dksX1_release_5 14 rfl rfl)
theorem dX1_release_133 : decode cX1_release 133 = .ok (.ladd, 1) := dk_97 (dk_at dksX1_release_5 17 rfl rfl)
theorem dX1_release_134 : decode cX1_release 134 = .ok (.putfield 287, 3) := dk_181 1 31 (dk_at dksX1_release_5 18 rfl rfl)
theorem dX1_release_137 : decode cX1_release 137 = .ok (.goto (-54), 3) := dk_167 255 202 (dk_at dksX1_release_5 21 rfl rfl)
theorem dX1_release_140 : decode cX1_release 140 = .ok (.aload_n 2, 1) := dk_44 (dk_at dksX1_release_6 0 rfl rfl)
theorem dX1_release_141 : decode cX1_release 141 = .ok (.aload_n 2, 1) := dk_44 (dk_at dksX1_release_6 1 rfl rfl)
theorem dX1_release_142 : decode cX1_release 142 = .ok (.getfield 263, 3) := dk_180 1 7 (dk_at dksX1_release_6 2 rfl rfl)
theorem dX1_release_145 : decode cX1_release 145 = .ok (.putfield 291, 3) := dk_181 1 35 (dk_at dksX1_release_6 5 rfl rfl)
theorem dX1_release_148 : decode cX1_release 148 = .ok (.aload_n 0, 1) := dk_42 (dk_at dksX1_release_6 8 rfl rfl)
theorem dX1_release_149 : decode cX1_release 149 = .ok (.aload_n 2, 1) := dk_44 (dk_at dksX1_release_6 9 rfl rfl)
theorem dX1_release_150 : decode cX1_release 150 = .ok (.invokevirtual 292, 3) := dk_182 1 36 (dk_at dksX1_release_6 10 rfl rfl)
theorem dX1_release_153 : decode cX1_release 153 = .ok (.aload_n 0, 1) := dk_42 (dk_at dksX1_release_6 13 rfl rfl)
theorem dX1_release_154 : decode cX1_release 154 = .ok (.invokevirtual 295, 3) := dk_182 1 39 (dk_at dksX1_release_6 14 rfl rfl)
theorem dX1_release_157 : decode cX1_release 157 = .ok (.iconst 1, 1) := dk_4 (dk_at dksX1_release_6 17 rfl rfl)
theorem dX1_release_158 : decode cX1_release 158 = .ok (.ireturn, 1) := dk_172 (dk_at dksX1_release_6 18 rfl rfl)
abbrev cX1_give : ByteArray := prog_1_method_35_code
def yX1_give : MethodName := ⟨RX1, "give", "(LFoundrymark$Taken;)J"⟩
def dkwX1_give_1 : List UInt8 := [180, 1, 30, 173]
abbrev dktX1_give_1 : List UInt8 := dkwX1_give_1 ++ []
def dkwX1_give_0 : List UInt8 := [42, 180, 0, 171, 42, 182, 1, 23, 167, 0, 14, 76, 187, 0, 10, 89, 1, 43, 183, 1, 27, 191, 42]
abbrev dktX1_give_0 : List UInt8 := dkwX1_give_0 ++ dktX1_give_1
theorem dksX1_give_0 : cX1_give.data.toList.drop 0 = dktX1_give_0 := by decide +kernel
theorem dksX1_give_1 : cX1_give.data.toList.drop 23 = dktX1_give_1 := dk_seg dksX1_give_0 23 rfl rfl
theorem dX1_give_0 : decode cX1_give 0 = .ok (.aload_n 0, 1) := dk_42 (dk_at dksX1_give_0 0 rfl rfl)
theorem dX1_give_1 : decode cX1_give 1 = .ok (.getfield 171, 3) := dk_180 0 171 (dk_at dksX1_give_0 1 rfl rfl)
theorem dX1_give_4 : decode cX1_give 4 = .ok (.aload_n 0, 1) := dk_42 (dk_at dksX1_give_0 4 rfl rfl)
theorem dX1_give_5 : decode cX1_give 5 = .ok (.invokevirtual 279, 3) := dk_182 1 23 (dk_at dksX1_give_0 5 rfl rfl)
theorem dX1_give_8 : decode cX1_give 8 = .ok (.goto 14, 3) := dk_167 0 14 (dk_at dksX1_give_0 8 rfl rfl)
theorem dX1_give_11 : decode cX1_give 11 = .ok (.astore_n 1, 1) := dk_76 (dk_at dksX1_give_0 11 rfl rfl)
theorem dX1_give_12 : decode cX1_give 12 = .ok (.new 10, 3) := dk_187 0 10 (dk_at dksX1_give_0 12 rfl rfl)
theorem dX1_give_15 : decode cX1_give 15 = .ok (.dup, 1) := dk_89 (dk_at dksX1_give_0 15 rfl rfl)
theorem dX1_give_16 : decode cX1_give 16 = .ok (.aconst_null, 1) := dk_1 (dk_at dksX1_give_0 16 rfl rfl)
theorem dX1_give_17 : decode cX1_give 17 = .ok (.aload_n 1, 1) := dk_43 (dk_at dksX1_give_0 17 rfl rfl)
theorem dX1_give_18 : decode cX1_give 18 = .ok (.invokespecial 283, 3) := dk_183 1 27 (dk_at dksX1_give_0 18 rfl rfl)
theorem dX1_give_21 : decode cX1_give 21 = .ok (.athrow, 1) := dk_191 (dk_at dksX1_give_0 21 rfl rfl)
theorem dX1_give_22 : decode cX1_give 22 = .ok (.aload_n 0, 1) := dk_42 (dk_at dksX1_give_0 22 rfl rfl)
theorem dX1_give_23 : decode cX1_give 23 = .ok (.getfield 286, 3) := dk_180 1 30 (dk_at dksX1_give_1 0 rfl rfl)
theorem dX1_give_26 : decode cX1_give 26 = .ok (.lreturn, 1) := dk_173 (dk_at dksX1_give_1 3 rfl rfl)
abbrev cX1_goOn : ByteArray := prog_1_method_37_code
def yX1_goOn : MethodName := ⟨RX1, "goOn", "(LFoundrymark$Order;)V"⟩
def dkwX1_goOn_5 : List UInt8 := [182, 1, 62, 87, 177]
abbrev dktX1_goOn_5 : List UInt8 := dkwX1_goOn_5 ++ []
def dkwX1_goOn_4 : List UInt8 := [182, 1, 55, 25, 4, 182, 1, 55, 162, 0, 8, 25, 5, 167, 0, 5, 25, 4, 180, 1, 58, 43]
abbrev dktX1_goOn_4 : List UInt8 := dkwX1_goOn_4 ++ dktX1_goOn_5
def dkwX1_goOn_3 : List UInt8 := [25, 4, 167, 0, 17, 42, 180, 0, 25, 45, 180, 1, 52, 182, 0, 82, 192, 0, 62, 58, 5, 25, 5]
abbrev dktX1_goOn_3 : List UInt8 := dkwX1_goOn_3 ++ dktX1_goOn_4
def dkwX1_goOn_2 : List UInt8 := [180, 0, 25, 45, 180, 1, 50, 182, 0, 82, 192, 0, 62, 58, 4, 45, 180, 1, 52, 2, 160, 0, 8]
abbrev dktX1_goOn_2 : List UInt8 := dkwX1_goOn_2 ++ dktX1_goOn_3
def dkwX1_goOn_1 : List UInt8 := [182, 1, 44, 177, 43, 178, 1, 47, 181, 0, 184, 44, 43, 180, 1, 42, 182, 0, 82, 192, 0, 110, 78, 42]
abbrev dktX1_goOn_1 : List UInt8 := dkwX1_goOn_1 ++ dktX1_goOn_2
def dkwX1_goOn_0 : List UInt8 := [43, 180, 0, 254, 192, 0, 71, 180, 0, 107, 77, 43, 180, 1, 42, 44, 182, 0, 55, 161, 0, 9, 42, 43]
abbrev dktX1_goOn_0 : List UInt8 := dkwX1_goOn_0 ++ dktX1_goOn_1
theorem dksX1_goOn_0 : cX1_goOn.data.toList.drop 0 = dktX1_goOn_0 := by decide +kernel
theorem dksX1_goOn_1 : cX1_goOn.data.toList.drop 24 = dktX1_goOn_1 := dk_seg dksX1_goOn_0 24 rfl rfl
theorem dksX1_goOn_2 : cX1_goOn.data.toList.drop 48 = dktX1_goOn_2 := dk_seg dksX1_goOn_1 24 rfl rfl
theorem dksX1_goOn_3 : cX1_goOn.data.toList.drop 71 = dktX1_goOn_3 := dk_seg dksX1_goOn_2 23 rfl rfl
theorem dksX1_goOn_4 : cX1_goOn.data.toList.drop 94 = dktX1_goOn_4 := dk_seg dksX1_goOn_3 23 rfl rfl
theorem dksX1_goOn_5 : cX1_goOn.data.toList.drop 116 = dktX1_goOn_5 := dk_seg dksX1_goOn_4 22 rfl rfl
theorem dX1_goOn_0 : decode cX1_goOn 0 = .ok (.aload_n 1, 1) := dk_43 (dk_at dksX1_goOn_0 0 rfl rfl)
theorem dX1_goOn_1 : decode cX1_goOn 1 = .ok (.getfield 254, 3) := dk_180 0 254 (dk_at dksX1_goOn_0 1 rfl rfl)
theorem dX1_goOn_4 : decode cX1_goOn 4 = .ok (.checkcast 71, 3) := dk_192 0 71 (dk_at dksX1_goOn_0 4 rfl rfl)
theorem dX1_goOn_7 : decode cX1_goOn 7 = .ok (.getfield 107, 3) := dk_180 0 107 (dk_at dksX1_goOn_0 7 rfl rfl)
theorem dX1_goOn_10 : decode cX1_goOn 10 = .ok (.astore_n 2, 1) := dk_77 (dk_at dksX1_goOn_0 10 rfl rfl)
theorem dX1_goOn_11 : decode cX1_goOn 11 = .ok (.aload_n 1, 1) := dk_43 (dk_at dksX1_goOn_0 11 rfl rfl)
theorem dX1_goOn_12 : decode cX1_goOn 12 = .ok (.getfield 298, 3) := dk_180 1 42 (dk_at dksX1_goOn_0 12 rfl rfl)
theorem dX1_goOn_15 : decode cX1_goOn 15 = .ok (.aload_n 2, 1) := dk_44 (dk_at dksX1_goOn_0 15 rfl rfl)
theorem dX1_goOn_16 : decode cX1_goOn 16 = .ok (.invokevirtual 55, 3) := dk_182 0 55 (dk_at dksX1_goOn_0 16 rfl rfl)
theorem dX1_goOn_19 : decode cX1_goOn 19 = .ok (.if_icmp .lt 9, 3) := dk_161 0 9 (dk_at dksX1_goOn_0 19 rfl rfl)
theorem dX1_goOn_22 : decode cX1_goOn 22 = .ok (.aload_n 0, 1) := dk_42 (dk_at dksX1_goOn_0 22 rfl rfl)
theorem dX1_goOn_23 : decode cX1_goOn 23 = .ok (.aload_n 1, 1) := dk_43 (dk_at dksX1_goOn_0 23 rfl rfl)
theorem dX1_goOn_24 : decode cX1_goOn 24 = .ok (.invokevirtual 300, 3) := dk_182 1 44 (dk_at dksX1_goOn_1 0 rfl rfl)
theorem dX1_goOn_27 : decode cX1_goOn 27 = .ok (.return_, 1) := dk_177 (dk_at dksX1_goOn_1 3 rfl rfl)
theorem dX1_goOn_28 : decode cX1_goOn 28 = .ok (.aload_n 1, 1) := dk_43 (dk_at dksX1_goOn_1 4 rfl rfl)
theorem dX1_goOn_29 : decode cX1_goOn 29 = .ok (.getstatic 303, 3) := dk_178 1 47 (dk_at dksX1_goOn_1 5 rfl rfl)
theorem dX1_goOn_32 : decode cX1_goOn 32 = .ok (.putfield 184, 3) := dk_181 0 184 (dk_at dksX1_goOn_1 8 rfl rfl)
theorem dX1_goOn_35 : decode cX1_goOn 35 = .ok (.aload_n 2, 1) := dk_44 (dk_at dksX1_goOn_1 11 rfl rfl)
theorem dX1_goOn_36 : decode cX1_goOn 36 = .ok (.aload_n 1, 1) := dk_43 (dk_at dksX1_goOn_1 12 rfl rfl)
theorem dX1_goOn_37 : decode cX1_goOn 37 = .ok (.getfield 298, 3) := dk_180 1 42 (dk_at dksX1_goOn_1 13 rfl rfl)
theorem dX1_goOn_40 : decode cX1_goOn 40 = .ok (.invokevirtual 82, 3) := dk_182 0 82 (dk_at dksX1_goOn_1 16 rfl rfl)
theorem dX1_goOn_43 : decode cX1_goOn 43 = .ok (.checkcast 110, 3) := dk_192 0 110 (dk_at dksX1_goOn_1 19 rfl rfl)
theorem dX1_goOn_46 : decode cX1_goOn 46 = .ok (.astore_n 3, 1) := dk_78 (dk_at dksX1_goOn_1 22 rfl rfl)
theorem dX1_goOn_47 : decode cX1_goOn 47 = .ok (.aload_n 0, 1) := dk_42 (dk_at dksX1_goOn_1 23 rfl rfl)
theorem dX1_goOn_48 : decode cX1_goOn 48 = .ok (.getfield 25, 3) := dk_180 0 25 (dk_at dksX1_goOn_2 0 rfl rfl)
theorem dX1_goOn_51 : decode cX1_goOn 51 = .ok (.aload_n 3, 1) := dk_45 (dk_at dksX1_goOn_2 3 rfl rfl)
theorem dX1_goOn_52 : decode cX1_goOn 52 = .ok (.getfield 306, 3) := dk_180 1 50 (dk_at dksX1_goOn_2 4 rfl rfl)
theorem dX1_goOn_55 : decode cX1_goOn 55 = .ok (.invokevirtual 82, 3) := dk_182 0 82 (dk_at dksX1_goOn_2 7 rfl rfl)
theorem dX1_goOn_58 : decode cX1_goOn 58 = .ok (.checkcast 62, 3) := dk_192 0 62 (dk_at dksX1_goOn_2 10 rfl rfl)
theorem dX1_goOn_61 : decode cX1_goOn 61 = .ok (.astore 4, 2) := dk_58 4 (dk_at dksX1_goOn_2 13 rfl rfl)
theorem dX1_goOn_63 : decode cX1_goOn 63 = .ok (.aload_n 3, 1) := dk_45 (dk_at dksX1_goOn_2 15 rfl rfl)
theorem dX1_goOn_64 : decode cX1_goOn 64 = .ok (.getfield 308, 3) := dk_180 1 52 (dk_at dksX1_goOn_2 16 rfl rfl)
theorem dX1_goOn_67 : decode cX1_goOn 67 = .ok (.iconst (-1), 1) := dk_2 (dk_at dksX1_goOn_2 19 rfl rfl)
theorem dX1_goOn_68 : decode cX1_goOn 68 = .ok (.if_icmp .ne 8, 3) := dk_160 0 8 (dk_at dksX1_goOn_2 20 rfl rfl)
theorem dX1_goOn_71 : decode cX1_goOn 71 = .ok (.aload 4, 2) := dk_25 4 (dk_at dksX1_goOn_3 0 rfl rfl)
theorem dX1_goOn_73 : decode cX1_goOn 73 = .ok (.goto 17, 3) := dk_167 0 17 (dk_at dksX1_goOn_3 2 rfl rfl)
theorem dX1_goOn_76 : decode cX1_goOn 76 = .ok (.aload_n 0, 1) := dk_42 (dk_at dksX1_goOn_3 5 rfl rfl)
theorem dX1_goOn_77 : decode cX1_goOn 77 = .ok (.getfield 25, 3) := dk_180 0 25 (dk_at dksX1_goOn_3 6 rfl rfl)
theorem dX1_goOn_80 : decode cX1_goOn 80 = .ok (.aload_n 3, 1) := dk_45 (dk_at dksX1_goOn_3 9 rfl rfl)
theorem dX1_goOn_81 : decode cX1_goOn 81 = .ok (.getfield 308, 3) := dk_180 1 52 (dk_at dksX1_goOn_3 10 rfl rfl)
theorem dX1_goOn_84 : decode cX1_goOn 84 = .ok (.invokevirtual 82, 3) := dk_182 0 82 (dk_at dksX1_goOn_3 13 rfl rfl)
theorem dX1_goOn_87 : decode cX1_goOn 87 = .ok (.checkcast 62, 3) := dk_192 0 62 (dk_at dksX1_goOn_3 16 rfl rfl)
theorem dX1_goOn_90 : decode cX1_goOn 90 = .ok (.astore 5, 2) := dk_58 5 (dk_at dksX1_goOn_3 19 rfl rfl)
theorem dX1_goOn_92 : decode cX1_goOn 92 = .ok (.aload 5, 2) := dk_25 5 (dk_at dksX1_goOn_3 21 rfl rfl)
theorem dX1_goOn_94 : decode cX1_goOn 94 = .ok (.invokevirtual 311, 3) := dk_182 1 55 (dk_at dksX1_goOn_4 0 rfl rfl)
theorem dX1_goOn_97 : decode cX1_goOn 97 = .ok (.aload 4, 2) := dk_25 4 (dk_at dksX1_goOn_4 3 rfl rfl)
theorem dX1_goOn_99 : decode cX1_goOn 99 = .ok (.invokevirtual 311, 3) := dk_182 1 55 (dk_at dksX1_goOn_4 5 rfl rfl)
theorem dX1_goOn_102 : decode cX1_goOn 102 = .ok (.if_icmp .ge 8, 3) := dk_162 0 8 (dk_at dksX1_goOn_4 8 rfl rfl)
theorem dX1_goOn_105 : decode cX1_goOn 105 = .ok (.aload 5, 2) := dk_25 5 (dk_at dksX1_goOn_4 11 rfl rfl)
theorem dX1_goOn_107 : decode cX1_goOn 107 = .ok (.goto 5, 3) := dk_167 0 5 (dk_at dksX1_goOn_4 13 rfl rfl)
theorem dX1_goOn_110 : decode cX1_goOn 110 = .ok (.aload 4, 2) := dk_25 4 (dk_at dksX1_goOn_4 16 rfl rfl)
theorem dX1_goOn_112 : decode cX1_goOn 112 = .ok (.getfield 314, 3) := dk_180 1 58 (dk_at dksX1_goOn_4 18 rfl rfl)
theorem dX1_goOn_115 : decode cX1_goOn 115 = .ok (.aload_n 1, 1) := dk_43 (dk_at dksX1_goOn_4 21 rfl rfl)
theorem dX1_goOn_116 : decode cX1_goOn 116 = .ok (.invokevirtual 318, 3) := dk_182 1 62 (dk_at dksX1_goOn_5 0 rfl rfl)
theorem dX1_goOn_119 : decode cX1_goOn 119 = .ok (.pop, 1) := dk_87 (dk_at dksX1_goOn_5 3 rfl rfl)
theorem dX1_goOn_120 : decode cX1_goOn 120 = .ok (.return_, 1) := dk_177 (dk_at dksX1_goOn_5 4 rfl rfl)
abbrev cX1_finish : ByteArray := prog_1_method_38_code
def yX1_finish : MethodName := ⟨RX1, "finish", "(LFoundrymark$Order;)V"⟩
def dkwX1_finish_2 : List UInt8 := [167, 0, 16, 42, 89, 180, 1, 75, 43, 180, 1, 31, 97, 181, 1, 75, 177]
abbrev dktX1_finish_2 : List UInt8 := dkwX1_finish_2 ++ []
def dkwX1_finish_1 : List UInt8 := [43, 180, 0, 254, 43, 180, 1, 35, 43, 180, 1, 31, 43, 180, 0, 150, 182, 0, 126, 181, 1, 74]
abbrev dktX1_finish_1 : List UInt8 := dkwX1_finish_1 ++ dktX1_finish_2
def dkwX1_finish_0 : List UInt8 := [43, 178, 1, 65, 181, 0, 184, 43, 42, 180, 1, 68, 181, 1, 71, 43, 180, 1, 35, 158, 0, 30, 43, 42]
abbrev dktX1_finish_0 : List UInt8 := dkwX1_finish_0 ++ dktX1_finish_1
theorem dksX1_finish_0 : cX1_finish.data.toList.drop 0 = dktX1_finish_0 := by decide +kernel
theorem dksX1_finish_1 : cX1_finish.data.toList.drop 24 = dktX1_finish_1 := dk_seg dksX1_finish_0 24 rfl rfl
theorem dksX1_finish_2 : cX1_finish.data.toList.drop 46 = dktX1_finish_2 := dk_seg dksX1_finish_1 22 rfl rfl
theorem dX1_finish_0 : decode cX1_finish 0 = .ok (.aload_n 1, 1) := dk_43 (dk_at dksX1_finish_0 0 rfl rfl)
theorem dX1_finish_1 : decode cX1_finish 1 = .ok (.getstatic 321, 3) := dk_178 1 65 (dk_at dksX1_finish_0 1 rfl rfl)
theorem dX1_finish_4 : decode cX1_finish 4 = .ok (.putfield 184, 3) := dk_181 0 184 (dk_at dksX1_finish_0 4 rfl rfl)
theorem dX1_finish_7 : decode cX1_finish 7 = .ok (.aload_n 1, 1) := dk_43 (dk_at dksX1_finish_0 7 rfl rfl)
theorem dX1_finish_8 : decode cX1_finish 8 = .ok (.aload_n 0, 1) := dk_42 (dk_at dksX1_finish_0 8 rfl rfl)
theorem dX1_finish_9 : decode cX1_finish 9 = .ok (.getfield 324, 3) := dk_180 1 68 (dk_at dksX1_finish_0 9 rfl rfl)
theorem dX1_finish_12 : decode cX1_finish 12 = .ok (.putfield 327, 3) := dk_181 1 71 (dk_at dksX1_finish_0 12 rfl rfl)
theorem dX1_finish_15 : decode cX1_finish 15 = .ok (.aload_n 1, 1) := dk_43 (dk_at dksX1_finish_0 15 rfl rfl)
theorem dX1_finish_16 : decode cX1_finish 16 = .ok (.getfield 291, 3) := dk_180 1 35 (dk_at dksX1_finish_0 16 rfl rfl)
theorem dX1_finish_19 : decode cX1_finish 19 = .ok (.ifCond .le 30, 3) := dk_158 0 30 (dk_at dksX1_finish_0 19 rfl rfl)
theorem dX1_finish_22 : decode cX1_finish 22 = .ok (.aload_n 1, 1) := dk_43 (dk_at dksX1_finish_0 22 rfl rfl)
theorem dX1_finish_23 : decode cX1_finish 23 = .ok (.aload_n 0, 1) := dk_42 (dk_at dksX1_finish_0 23 rfl rfl)
theorem dX1_finish_24 : decode cX1_finish 24 = .ok (.aload_n 1, 1) := dk_43 (dk_at dksX1_finish_1 0 rfl rfl)
theorem dX1_finish_25 : decode cX1_finish 25 = .ok (.getfield 254, 3) := dk_180 0 254 (dk_at dksX1_finish_1 1 rfl rfl)
theorem dX1_finish_28 : decode cX1_finish 28 = .ok (.aload_n 1, 1) := dk_43 (dk_at dksX1_finish_1 4 rfl rfl)
theorem dX1_finish_29 : decode cX1_finish 29 = .ok (.getfield 291, 3) := dk_180 1 35 (dk_at dksX1_finish_1 5 rfl rfl)
theorem dX1_finish_32 : decode cX1_finish 32 = .ok (.aload_n 1, 1) := dk_43 (dk_at dksX1_finish_1 8 rfl rfl)
theorem dX1_finish_33 : decode cX1_finish 33 = .ok (.getfield 287, 3) := dk_180 1 31 (dk_at dksX1_finish_1 9 rfl rfl)
theorem dX1_finish_36 : decode cX1_finish 36 = .ok (.aload_n 1, 1) := dk_43 (dk_at dksX1_finish_1 12 rfl rfl)
theorem dX1_finish_37 : decode cX1_finish 37 = .ok (.getfield 150, 3) := dk_180 0 150 (dk_at dksX1_finish_1 13 rfl rfl)
theorem dX1_finish_40 : decode cX1_finish 40 = .ok (.invokevirtual 126, 3) := dk_182 0 126 (dk_at dksX1_finish_1 16 rfl rfl)
theorem dX1_finish_43 : decode cX1_finish 43 = .ok (.putfield 330, 3) := dk_181 1 74 (dk_at dksX1_finish_1 19 rfl rfl)
theorem dX1_finish_46 : decode cX1_finish 46 = .ok (.goto 16, 3) := dk_167 0 16 (dk_at dksX1_finish_2 0 rfl rfl)
theorem dX1_finish_49 : decode cX1_finish 49 = .ok (.aload_n 0, 1) := dk_42 (dk_at dksX1_finish_2 3 rfl rfl)
theorem dX1_finish_50 : decode cX1_finish 50 = .ok (.dup, 1) := dk_89 (dk_at dksX1_finish_2 4 rfl rfl)
theorem dX1_finish_51 : decode cX1_finish 51 = .ok (.getfield 331, 3) := dk_180 1 75 (dk_at dksX1_finish_2 5 rfl rfl)
theorem dX1_finish_54 : decode cX1_finish 54 = .ok (.aload_n 1, 1) := dk_43 (dk_at dksX1_finish_2 8 rfl rfl)
theorem dX1_finish_55 : decode cX1_finish 55 = .ok (.getfield 287, 3) := dk_180 1 31 (dk_at dksX1_finish_2 9 rfl rfl)
theorem dX1_finish_58 : decode cX1_finish 58 = .ok (.ladd, 1) := dk_97 (dk_at dksX1_finish_2 12 rfl rfl)
theorem dX1_finish_59 : decode cX1_finish 59 = .ok (.putfield 331, 3) := dk_181 1 75 (dk_at dksX1_finish_2 13 rfl rfl)
theorem dX1_finish_62 : decode cX1_finish 62 = .ok (.return_, 1) := dk_177 (dk_at dksX1_finish_2 16 rfl rfl)
abbrev cX1_beginAll : ByteArray := prog_1_method_41_code
def yX1_beginAll : MethodName := ⟨RX1, "beginAll", "()V"⟩
def dkwX1_beginAll_2 : List UInt8 := [182, 1, 134, 167, 255, 215, 177]
abbrev dktX1_beginAll_2 : List UInt8 := dkwX1_beginAll_2 ++ []
def dkwX1_beginAll_1 : List UInt8 := [192, 0, 62, 77, 44, 182, 1, 128, 153, 0, 18, 44, 180, 1, 58, 182, 1, 131, 154, 0, 8, 42, 44]
abbrev dktX1_beginAll_1 : List UInt8 := dkwX1_beginAll_1 ++ dktX1_beginAll_2
def dkwX1_beginAll_0 : List UInt8 := [42, 180, 0, 25, 182, 0, 155, 76, 43, 185, 0, 159, 1, 0, 153, 0, 38, 43, 185, 0, 165, 1, 0]
abbrev dktX1_beginAll_0 : List UInt8 := dkwX1_beginAll_0 ++ dktX1_beginAll_1
theorem dksX1_beginAll_0 : cX1_beginAll.data.toList.drop 0 = dktX1_beginAll_0 := by decide +kernel
theorem dksX1_beginAll_1 : cX1_beginAll.data.toList.drop 23 = dktX1_beginAll_1 := dk_seg dksX1_beginAll_0 23 rfl rfl
theorem dksX1_beginAll_2 : cX1_beginAll.data.toList.drop 46 = dktX1_beginAll_2 := dk_seg dksX1_beginAll_1 23 rfl rfl
theorem dX1_beginAll_0 : decode cX1_beginAll 0 = .ok (.aload_n 0, 1) := dk_42 (dk_at dksX1_beginAll_0 0 rfl rfl)
theorem dX1_beginAll_1 : decode cX1_beginAll 1 = .ok (.getfield 25, 3) := dk_180 0 25 (dk_at dksX1_beginAll_0 1 rfl rfl)
theorem dX1_beginAll_4 : decode cX1_beginAll 4 = .ok (.invokevirtual 155, 3) := dk_182 0 155 (dk_at dksX1_beginAll_0 4 rfl rfl)
theorem dX1_beginAll_7 : decode cX1_beginAll 7 = .ok (.astore_n 1, 1) := dk_76 (dk_at dksX1_beginAll_0 7 rfl rfl)
theorem dX1_beginAll_8 : decode cX1_beginAll 8 = .ok (.aload_n 1, 1) := dk_43 (dk_at dksX1_beginAll_0 8 rfl rfl)
theorem dX1_beginAll_9 : decode cX1_beginAll 9 = .ok (.invokeinterface 159 1, 5) := by decide +kernel
theorem dX1_beginAll_14 : decode cX1_beginAll 14 = .ok (.ifCond .eq 38, 3) := dk_153 0 38 (dk_at dksX1_beginAll_0 14 rfl rfl)
theorem dX1_beginAll_17 : decode cX1_beginAll 17 = .ok (.aload_n 1, 1) := dk_43 (dk_at dksX1_beginAll_0 17 rfl rfl)
theorem dX1_beginAll_18 : decode cX1_beginAll 18 = .ok (.invokeinterface 165 1, 5) := by decide +kernel
theorem dX1_beginAll_23 : decode cX1_beginAll 23 = .ok (.checkcast 62, 3) := dk_192 0 62 (dk_at dksX1_beginAll_1 0 rfl rfl)
theorem dX1_beginAll_26 : decode cX1_beginAll 26 = .ok (.astore_n 2, 1) := dk_77 (dk_at dksX1_beginAll_1 3 rfl rfl)
theorem dX1_beginAll_27 : decode cX1_beginAll 27 = .ok (.aload_n 2, 1) := dk_44 (dk_at dksX1_beginAll_1 4 rfl rfl)
theorem dX1_beginAll_28 : decode cX1_beginAll 28 = .ok (.invokevirtual 384, 3) := dk_182 1 128 (dk_at dksX1_beginAll_1 5 rfl rfl)
theorem dX1_beginAll_31 : decode cX1_beginAll 31 = .ok (.ifCond .eq 18, 3) := dk_153 0 18 (dk_at dksX1_beginAll_1 8 rfl rfl)
theorem dX1_beginAll_34 : decode cX1_beginAll 34 = .ok (.aload_n 2, 1) := dk_44 (dk_at dksX1_beginAll_1 11 rfl rfl)
theorem dX1_beginAll_35 : decode cX1_beginAll 35 = .ok (.getfield 314, 3) := dk_180 1 58 (dk_at dksX1_beginAll_1 12 rfl rfl)
theorem dX1_beginAll_38 : decode cX1_beginAll 38 = .ok (.invokevirtual 387, 3) := dk_182 1 131 (dk_at dksX1_beginAll_1 15 rfl rfl)
theorem dX1_beginAll_41 : decode cX1_beginAll 41 = .ok (.ifCond .ne 8, 3) := dk_154 0 8 (dk_at dksX1_beginAll_1 18 rfl rfl)
theorem dX1_beginAll_44 : decode cX1_beginAll 44 = .ok (.aload_n 0, 1) := dk_42 (dk_at dksX1_beginAll_1 21 rfl rfl)
theorem dX1_beginAll_45 : decode cX1_beginAll 45 = .ok (.aload_n 2, 1) := dk_44 (dk_at dksX1_beginAll_1 22 rfl rfl)
theorem dX1_beginAll_46 : decode cX1_beginAll 46 = .ok (.invokevirtual 390, 3) := dk_182 1 134 (dk_at dksX1_beginAll_2 0 rfl rfl)
theorem dX1_beginAll_49 : decode cX1_beginAll 49 = .ok (.goto (-41), 3) := dk_167 255 215 (dk_at dksX1_beginAll_2 3 rfl rfl)
theorem dX1_beginAll_52 : decode cX1_beginAll 52 = .ok (.return_, 1) := dk_177 (dk_at dksX1_beginAll_2 6 rfl rfl)
abbrev cX1_begin : ByteArray := prog_1_method_40_code
def yX1_begin : MethodName := ⟨RX1, "begin", "(LFoundrymark$Machine;)V"⟩
def dkwX1_begin_6 : List UInt8 := [42, 89, 180, 1, 125, 22, 5, 97, 181, 1, 125, 177]
abbrev dktX1_begin_6 : List UInt8 := dkwX1_begin_6 ++ []
def dkwX1_begin_5 : List UInt8 := [180, 1, 68, 100, 133, 43, 180, 1, 122, 133, 105, 55, 5, 44, 89, 180, 1, 31, 22, 5, 97, 181, 1, 31]
abbrev dktX1_begin_5 : List UInt8 := dkwX1_begin_5 ++ dktX1_begin_6
def dkwX1_begin_4 : List UInt8 := [181, 1, 88, 43, 42, 180, 1, 68, 4, 21, 4, 184, 1, 119, 96, 181, 1, 100, 43, 180, 1, 100, 42]
abbrev dktX1_begin_4 : List UInt8 := dkwX1_begin_4 ++ dktX1_begin_5
def dkwX1_begin_3 : List UInt8 := [180, 1, 116, 104, 96, 54, 4, 43, 44, 180, 0, 254, 180, 1, 112, 181, 1, 109, 43, 42, 180, 1, 68]
abbrev dktX1_begin_3 : List UInt8 := dkwX1_begin_3 ++ dktX1_begin_4
def dkwX1_begin_2 : List UInt8 := [180, 1, 35, 44, 180, 0, 254, 192, 0, 71, 180, 0, 107, 44, 180, 1, 42, 182, 0, 82, 192, 0, 110]
abbrev dktX1_begin_2 : List UInt8 := dkwX1_begin_2 ++ dktX1_begin_3
def dkwX1_begin_1 : List UInt8 := [180, 1, 109, 44, 180, 0, 254, 180, 1, 112, 160, 0, 7, 3, 167, 0, 7, 43, 180, 1, 113, 62, 29, 44]
abbrev dktX1_begin_1 : List UInt8 := dkwX1_begin_1 ++ dktX1_begin_2
def dkwX1_begin_0 : List UInt8 := [43, 180, 1, 58, 182, 1, 103, 192, 0, 151, 77, 43, 44, 181, 1, 81, 44, 178, 1, 106, 181, 0, 184, 43]
abbrev dktX1_begin_0 : List UInt8 := dkwX1_begin_0 ++ dktX1_begin_1
theorem dksX1_begin_0 : cX1_begin.data.toList.drop 0 = dktX1_begin_0 := by decide +kernel
theorem dksX1_begin_1 : cX1_begin.data.toList.drop 24 = dktX1_begin_1 := dk_seg dksX1_begin_0 24 rfl rfl
theorem dksX1_begin_2 : cX1_begin.data.toList.drop 48 = dktX1_begin_2 := dk_seg dksX1_begin_1 24 rfl rfl
theorem dksX1_begin_3 : cX1_begin.data.toList.drop 71 = dktX1_begin_3 := dk_seg dksX1_begin_2 23 rfl rfl
theorem dksX1_begin_4 : cX1_begin.data.toList.drop 94 = dktX1_begin_4 := dk_seg dksX1_begin_3 23 rfl rfl
theorem dksX1_begin_5 : cX1_begin.data.toList.drop 117 = dktX1_begin_5 := dk_seg dksX1_begin_4 23 rfl rfl
theorem dksX1_begin_6 : cX1_begin.data.toList.drop 141 = dktX1_begin_6 := dk_seg dksX1_begin_5 24 rfl rfl
theorem dX1_begin_0 : decode cX1_begin 0 = .ok (.aload_n 1, 1) := dk_43 (dk_at dksX1_begin_0 0 rfl rfl)
theorem dX1_begin_1 : decode cX1_begin 1 = .ok (.getfield 314, 3) := dk_180 1 58 (dk_at dksX1_begin_0 1 rfl rfl)
theorem dX1_begin_4 : decode cX1_begin 4 = .ok (.invokevirtual 359, 3) := dk_182 1 103 (dk_at dksX1_begin_0 4 rfl rfl)
theorem dX1_begin_7 : decode cX1_begin 7 = .ok (.checkcast 151, 3) := dk_192 0 151 (dk_at dksX1_begin_0 7 rfl rfl)
theorem dX1_begin_10 : decode cX1_begin 10 = .ok (.astore_n 2, 1) := dk_77 (dk_at dksX1_begin_0 10 rfl rfl)
theorem dX1_begin_11 : decode cX1_begin 11 = .ok (.aload_n 1, 1) := dk_43 (dk_at dksX1_begin_0 11 rfl rfl)
theorem dX1_begin_12 : decode cX1_begin 12 = .ok (.aload_n 2, 1) := dk_44 (dk_at dksX1_begin_0 12 rfl rfl)
theorem dX1_begin_13 : decode cX1_begin 13 = .ok (.putfield 337, 3) := dk_181 1 81 (dk_at dksX1_begin_0 13 rfl rfl)
theorem dX1_begin_16 : decode cX1_begin 16 = .ok (.aload_n 2, 1) := dk_44 (dk_at dksX1_begin_0 16 rfl rfl)
theorem dX1_begin_17 : decode cX1_begin 17 = .ok (.getstatic 362, 3) := dk_178 1 106 (dk_at dksX1_begin_0 17 rfl rfl)
theorem dX1_begin_20 : decode cX1_begin 20 = .ok (.putfield 184, 3) := dk_181 0 184 (dk_at dksX1_begin_0 20 rfl rfl)
theorem dX1_begin_23 : decode cX1_begin 23 = .ok (.aload_n 1, 1) := dk_43 (dk_at dksX1_begin_0 23 rfl rfl)
theorem dX1_begin_24 : decode cX1_begin 24 = .ok (.getfield 365, 3) := dk_180 1 109 (dk_at dksX1_begin_1 0 rfl rfl)
theorem dX1_begin_27 : decode cX1_begin 27 = .ok (.aload_n 2, 1) := dk_44 (dk_at dksX1_begin_1 3 rfl rfl)
theorem dX1_begin_28 : decode cX1_begin 28 = .ok (.getfield 254, 3) := dk_180 0 254 (dk_at dksX1_begin_1 4 rfl rfl)
theorem dX1_begin_31 : decode cX1_begin 31 = .ok (.getfield 368, 3) := dk_180 1 112 (dk_at dksX1_begin_1 7 rfl rfl)
theorem dX1_begin_34 : decode cX1_begin 34 = .ok (.if_icmp .ne 7, 3) := dk_160 0 7 (dk_at dksX1_begin_1 10 rfl rfl)
theorem dX1_begin_37 : decode cX1_begin 37 = .ok (.iconst 0, 1) := dk_3 (dk_at dksX1_begin_1 13 rfl rfl)
theorem dX1_begin_38 : decode cX1_begin 38 = .ok (.goto 7, 3) := dk_167 0 7 (dk_at dksX1_begin_1 14 rfl rfl)
theorem dX1_begin_41 : decode cX1_begin 41 = .ok (.aload_n 1, 1) := dk_43 (dk_at dksX1_begin_1 17 rfl rfl)
theorem dX1_begin_42 : decode cX1_begin 42 = .ok (.getfield 369, 3) := dk_180 1 113 (dk_at dksX1_begin_1 18 rfl rfl)
theorem dX1_begin_45 : decode cX1_begin 45 = .ok (.istore_n 3, 1) := dk_62 (dk_at dksX1_begin_1 21 rfl rfl)
theorem dX1_begin_46 : decode cX1_begin 46 = .ok (.iload_n 3, 1) := dk_29 (dk_at dksX1_begin_1 22 rfl rfl)
theorem dX1_begin_47 : decode cX1_begin 47 = .ok (.aload_n 2, 1) := dk_44 (dk_at dksX1_begin_1 23 rfl rfl)
theorem dX1_begin_48 : decode cX1_begin 48 = .ok (.getfield 291, 3) := dk_180 1 35 (dk_at dksX1_begin_2 0 rfl rfl)
theorem dX1_begin_51 : decode cX1_begin 51 = .ok (.aload_n 2, 1) := dk_44 (dk_at dksX1_begin_2 3 rfl rfl)
theorem dX1_begin_52 : decode cX1_begin 52 = .ok (.getfield 254, 3) := dk_180 0 254 (dk_at dksX1_begin_2 4 rfl rfl)
theorem dX1_begin_55 : decode cX1_begin 55 = .ok (.checkcast 71, 3) := dk_192 0 71 (dk_at dksX1_begin_2 7 rfl rfl)
theorem dX1_begin_58 : decode cX1_begin 58 = .ok (.getfield 107, 3) := dk_180 0 107 (dk_at dksX1_begin_2 10 rfl rfl)
theorem dX1_begin_61 : decode cX1_begin 61 = .ok (.aload_n 2, 1) := dk_44 (dk_at dksX1_begin_2 13 rfl rfl)
theorem dX1_begin_62 : decode cX1_begin 62 = .ok (.getfield 298, 3) := dk_180 1 42 (dk_at dksX1_begin_2 14 rfl rfl)
theorem dX1_begin_65 : decode cX1_begin 65 = .ok (.invokevirtual 82, 3) := dk_182 0 82 (dk_at dksX1_begin_2 17 rfl rfl)
theorem dX1_begin_68 : decode cX1_begin 68 = .ok (.checkcast 110, 3) := dk_192 0 110 (dk_at dksX1_begin_2 20 rfl rfl)
theorem dX1_begin_71 : decode cX1_begin 71 = .ok (.getfield 372, 3) := dk_180 1 116 (dk_at dksX1_begin_3 0 rfl rfl)
theorem dX1_begin_74 : decode cX1_begin 74 = .ok (.imul, 1) := dk_104 (dk_at dksX1_begin_3 3 rfl rfl)
theorem dX1_begin_75 : decode cX1_begin 75 = .ok (.iadd, 1) := dk_96 (dk_at dksX1_begin_3 4 rfl rfl)
theorem dX1_begin_76 : decode cX1_begin 76 = .ok (.istore 4, 2) := dk_54 4 (dk_at dksX1_begin_3 5 rfl rfl)
theorem dX1_begin_78 : decode cX1_begin 78 = .ok (.aload_n 1, 1) := dk_43 (dk_at dksX1_begin_3 7 rfl rfl)
theorem dX1_begin_79 : decode cX1_begin 79 = .ok (.aload_n 2, 1) := dk_44 (dk_at dksX1_begin_3 8 rfl rfl)
theorem dX1_begin_80 : decode cX1_begin 80 = .ok (.getfield 254, 3) := dk_180 0 254 (dk_at dksX1_begin_3 9 rfl rfl)
theorem dX1_begin_83 : decode cX1_begin 83 = .ok (.getfield 368, 3) := dk_180 1 112 (dk_at dksX1_begin_3 12 rfl rfl)
theorem dX1_begin_86 : decode cX1_begin 86 = .ok (.putfield 365, 3) := dk_181 1 109 (dk_at dksX1_begin_3 15 rfl rfl)
theorem dX1_begin_89 : decode cX1_begin 89 = .ok (.aload_n 1, 1) := dk_43 (dk_at dksX1_begin_3 18 rfl rfl)
theorem dX1_begin_90 : decode cX1_begin 90 = .ok (.aload_n 0, 1) := dk_42 (dk_at dksX1_begin_3 19 rfl rfl)
theorem dX1_begin_91 : decode cX1_begin 91 = .ok (.getfield 324, 3) := dk_180 1 68 (dk_at dksX1_begin_3 20 rfl rfl)
theorem dX1_begin_94 : decode cX1_begin 94 = .ok (.putfield 344, 3) := dk_181 1 88 (dk_at dksX1_begin_4 0 rfl rfl)
theorem dX1_begin_97 : decode cX1_begin 97 = .ok (.aload_n 1, 1) := dk_43 (dk_at dksX1_begin_4 3 rfl rfl)
theorem dX1_begin_98 : decode cX1_begin 98 = .ok (.aload_n 0, 1) := dk_42 (dk_at dksX1_begin_4 4 rfl rfl)
theorem dX1_begin_99 : decode cX1_begin 99 = .ok (.getfield 324, 3) := dk_180 1 68 (dk_at dksX1_begin_4 5 rfl rfl)
theorem dX1_begin_102 : decode cX1_begin 102 = .ok (.iconst 1, 1) := dk_4 (dk_at dksX1_begin_4 8 rfl rfl)
theorem dX1_begin_103 : decode cX1_begin 103 = .ok (.iload 4, 2) := dk_21 4 (dk_at dksX1_begin_4 9 rfl rfl)
theorem dX1_begin_105 : decode cX1_begin 105 = .ok (.invokestatic 375, 3) := dk_184 1 119 (dk_at dksX1_begin_4 11 rfl rfl)
theorem dX1_begin_108 : decode cX1_begin 108 = .ok (.iadd, 1) := dk_96 (dk_at dksX1_begin_4 14 rfl rfl)
theorem dX1_begin_109 : decode cX1_begin 109 = .ok (.putfield 356, 3) := dk_181 1 100 (dk_at dksX1_begin_4 15 rfl rfl)
theorem dX1_begin_112 : decode cX1_begin 112 = .ok (.aload_n 1, 1) := dk_43 (dk_at dksX1_begin_4 18 rfl rfl)
theorem dX1_begin_113 : decode cX1_begin 113 = .ok (.getfield 356, 3) := dk_180 1 100 (dk_at dksX1_begin_4 19 rfl rfl)
theorem dX1_begin_116 : decode cX1_begin 116 = .ok (.aload_n 0, 1) := dk_42 (dk_at dksX1_begin_4 22 rfl rfl)
theorem dX1_begin_117 : decode cX1_begin 117 = .ok (.getfield 324, 3) := dk_180 1 68 (dk_at dksX1_begin_5 0 rfl rfl)
theorem dX1_begin_120 : decode cX1_begin 120 = .ok (.isub, 1) := dk_100 (dk_at dksX1_begin_5 3 rfl rfl)
theorem dX1_begin_121 : decode cX1_begin 121 = .ok (.i2l, 1) := dk_133 (dk_at dksX1_begin_5 4 rfl rfl)
theorem dX1_begin_122 : decode cX1_begin 122 = .ok (.aload_n 1, 1) := dk_43 (dk_at dksX1_begin_5 5 rfl rfl)
theorem dX1_begin_123 : decode cX1_begin 123 = .ok (.getfield 378, 3) := dk_180 1 122 (dk_at dksX1_begin_5 6 rfl rfl)
theorem dX1_begin_126 : decode cX1_begin 126 = .ok (.i2l, 1) := dk_133 (dk_at dksX1_begin_5 9 rfl rfl)
theorem dX1_begin_127 : decode cX1_begin 127 = .ok (.lmul, 1) := dk_105 (dk_at dksX1_begin_5 10 rfl rfl)
theorem dX1_begin_128 : decode cX1_begin 128 = .ok (.lstore 5, 2) := dk_55 5 (dk_at dksX1_begin_5 11 rfl rfl)
theorem dX1_begin_130 : decode cX1_begin 130 = .ok (.aload_n 2, 1) := dk_44 (dk_at dksX1_begin_5 13 rfl rfl)
theorem dX1_begin_131 : decode cX1_begin 131 = .ok (.dup, 1) := dk_89 (dk_at dksX1_begin_5 14 rfl rfl)
theorem dX1_begin_132 : decode cX1_begin 132 = .ok (.getfield 287, 3) := dk_180 1 31 (dk_at dksX1_begin_5 15 rfl rfl)
theorem dX1_begin_135 : decode cX1_begin 135 = .ok (.lload 5, 2) := dk_22 5 (dk_at dksX1_begin_5 18 rfl rfl)
theorem dX1_begin_137 : decode cX1_begin 137 = .ok (.ladd, 1) := dk_97 (dk_at dksX1_begin_5 20 rfl rfl)
theorem dX1_begin_138 : decode cX1_begin 138 = .ok (.putfield 287, 3) := dk_181 1 31 (dk_at dksX1_begin_5 21 rfl rfl)
theorem dX1_begin_141 : decode cX1_begin 141 = .ok (.aload_n 0, 1) := dk_42 (dk_at dksX1_begin_6 0 rfl rfl)
theorem dX1_begin_142 : decode cX1_begin 142 = .ok (.dup, 1) := dk_89 (dk_at dksX1_begin_6 1 rfl rfl)
theorem dX1_begin_143 : decode cX1_begin 143 = .ok (.getfield 381, 3) := dk_180 1 125 (dk_at dksX1_begin_6 2 rfl rfl)
theorem dX1_begin_146 : decode cX1_begin 146 = .ok (.lload 5, 2) := dk_22 5 (dk_at dksX1_begin_6 5 rfl rfl)
theorem dX1_begin_148 : decode cX1_begin 148 = .ok (.ladd, 1) := dk_97 (dk_at dksX1_begin_6 7 rfl rfl)
theorem dX1_begin_149 : decode cX1_begin 149 = .ok (.putfield 381, 3) := dk_181 1 125 (dk_at dksX1_begin_6 8 rfl rfl)
theorem dX1_begin_152 : decode cX1_begin 152 = .ok (.return_, 1) := dk_177 (dk_at dksX1_begin_6 11 rfl rfl)
abbrev cX1_scrap : ByteArray := prog_1_method_42_code
def yX1_scrap : MethodName := ⟨RX1, "scrap", "(II)I"⟩
def dkwX1_scrap_1 : List UInt8 := [184, 0, 47, 184, 0, 51, 45, 89, 180, 1, 35, 28, 100, 181, 1, 35, 45, 180, 1, 35, 172]
abbrev dktX1_scrap_1 : List UInt8 := dkwX1_scrap_1 ++ []
def dkwX1_scrap_0 : List UInt8 := [42, 27, 182, 1, 15, 78, 45, 180, 0, 184, 182, 1, 138, 184, 0, 92, 28, 4, 45, 180, 1, 35]
abbrev dktX1_scrap_0 : List UInt8 := dkwX1_scrap_0 ++ dktX1_scrap_1
theorem dksX1_scrap_0 : cX1_scrap.data.toList.drop 0 = dktX1_scrap_0 := by decide +kernel
theorem dksX1_scrap_1 : cX1_scrap.data.toList.drop 22 = dktX1_scrap_1 := dk_seg dksX1_scrap_0 22 rfl rfl
theorem dX1_scrap_0 : decode cX1_scrap 0 = .ok (.aload_n 0, 1) := dk_42 (dk_at dksX1_scrap_0 0 rfl rfl)
theorem dX1_scrap_1 : decode cX1_scrap 1 = .ok (.iload_n 1, 1) := dk_27 (dk_at dksX1_scrap_0 1 rfl rfl)
theorem dX1_scrap_2 : decode cX1_scrap 2 = .ok (.invokevirtual 271, 3) := dk_182 1 15 (dk_at dksX1_scrap_0 2 rfl rfl)
theorem dX1_scrap_5 : decode cX1_scrap 5 = .ok (.astore_n 3, 1) := dk_78 (dk_at dksX1_scrap_0 5 rfl rfl)
theorem dX1_scrap_6 : decode cX1_scrap 6 = .ok (.aload_n 3, 1) := dk_45 (dk_at dksX1_scrap_0 6 rfl rfl)
theorem dX1_scrap_7 : decode cX1_scrap 7 = .ok (.getfield 184, 3) := dk_180 0 184 (dk_at dksX1_scrap_0 7 rfl rfl)
theorem dX1_scrap_10 : decode cX1_scrap 10 = .ok (.invokevirtual 394, 3) := dk_182 1 138 (dk_at dksX1_scrap_0 10 rfl rfl)
theorem dX1_scrap_13 : decode cX1_scrap 13 = .ok (.invokestatic 92, 3) := dk_184 0 92 (dk_at dksX1_scrap_0 13 rfl rfl)
theorem dX1_scrap_16 : decode cX1_scrap 16 = .ok (.iload_n 2, 1) := dk_28 (dk_at dksX1_scrap_0 16 rfl rfl)
theorem dX1_scrap_17 : decode cX1_scrap 17 = .ok (.iconst 1, 1) := dk_4 (dk_at dksX1_scrap_0 17 rfl rfl)
theorem dX1_scrap_18 : decode cX1_scrap 18 = .ok (.aload_n 3, 1) := dk_45 (dk_at dksX1_scrap_0 18 rfl rfl)
theorem dX1_scrap_19 : decode cX1_scrap 19 = .ok (.getfield 291, 3) := dk_180 1 35 (dk_at dksX1_scrap_0 19 rfl rfl)
theorem dX1_scrap_22 : decode cX1_scrap 22 = .ok (.invokestatic 47, 3) := dk_184 0 47 (dk_at dksX1_scrap_1 0 rfl rfl)
theorem dX1_scrap_25 : decode cX1_scrap 25 = .ok (.invokestatic 51, 3) := dk_184 0 51 (dk_at dksX1_scrap_1 3 rfl rfl)
theorem dX1_scrap_28 : decode cX1_scrap 28 = .ok (.aload_n 3, 1) := dk_45 (dk_at dksX1_scrap_1 6 rfl rfl)
theorem dX1_scrap_29 : decode cX1_scrap 29 = .ok (.dup, 1) := dk_89 (dk_at dksX1_scrap_1 7 rfl rfl)
theorem dX1_scrap_30 : decode cX1_scrap 30 = .ok (.getfield 291, 3) := dk_180 1 35 (dk_at dksX1_scrap_1 8 rfl rfl)
theorem dX1_scrap_33 : decode cX1_scrap 33 = .ok (.iload_n 2, 1) := dk_28 (dk_at dksX1_scrap_1 11 rfl rfl)
theorem dX1_scrap_34 : decode cX1_scrap 34 = .ok (.isub, 1) := dk_100 (dk_at dksX1_scrap_1 12 rfl rfl)
theorem dX1_scrap_35 : decode cX1_scrap 35 = .ok (.putfield 291, 3) := dk_181 1 35 (dk_at dksX1_scrap_1 13 rfl rfl)
theorem dX1_scrap_38 : decode cX1_scrap 38 = .ok (.aload_n 3, 1) := dk_45 (dk_at dksX1_scrap_1 16 rfl rfl)
theorem dX1_scrap_39 : decode cX1_scrap 39 = .ok (.getfield 291, 3) := dk_180 1 35 (dk_at dksX1_scrap_1 17 rfl rfl)
theorem dX1_scrap_42 : decode cX1_scrap 42 = .ok (.ireturn, 1) := dk_172 (dk_at dksX1_scrap_1 20 rfl rfl)
abbrev cX1_advance : ByteArray := prog_1_method_43_code
def yX1_advance : MethodName := ⟨RX1, "advance", "(I)I"⟩
def dkwX1_advance_4 : List UInt8 := [167, 255, 218, 42, 182, 1, 39, 132, 2, 1, 167, 255, 185, 42, 180, 1, 68, 172]
abbrev dktX1_advance_4 : List UInt8 := dkwX1_advance_4 ++ []
def dkwX1_advance_3 : List UInt8 := [192, 0, 62, 58, 4, 25, 4, 42, 180, 1, 68, 182, 1, 141, 153, 0, 9, 42, 25, 4, 182, 1, 144]
abbrev dktX1_advance_3 : List UInt8 := dkwX1_advance_3 ++ dktX1_advance_4
def dkwX1_advance_2 : List UInt8 := [42, 180, 0, 25, 182, 0, 155, 78, 45, 185, 0, 159, 1, 0, 153, 0, 35, 45, 185, 0, 165, 1, 0]
abbrev dktX1_advance_2 : List UInt8 := dkwX1_advance_2 ++ dktX1_advance_3
def dkwX1_advance_1 : List UInt8 := [167, 0, 4, 3, 184, 0, 59, 3, 61, 28, 27, 162, 0, 72, 42, 89, 180, 1, 68, 4, 96, 181, 1, 68]
abbrev dktX1_advance_1 : List UInt8 := dkwX1_advance_1 ++ dktX1_advance_2
def dkwX1_advance_0 : List UInt8 := [27, 4, 17, 1, 244, 184, 0, 47, 184, 0, 51, 42, 180, 1, 68, 27, 96, 17, 19, 136, 163, 0, 7, 4]
abbrev dktX1_advance_0 : List UInt8 := dkwX1_advance_0 ++ dktX1_advance_1
theorem dksX1_advance_0 : cX1_advance.data.toList.drop 0 = dktX1_advance_0 := by decide +kernel
theorem dksX1_advance_1 : cX1_advance.data.toList.drop 24 = dktX1_advance_1 := dk_seg dksX1_advance_0 24 rfl rfl
theorem dksX1_advance_2 : cX1_advance.data.toList.drop 48 = dktX1_advance_2 := dk_seg dksX1_advance_1 24 rfl rfl
theorem dksX1_advance_3 : cX1_advance.data.toList.drop 71 = dktX1_advance_3 := dk_seg dksX1_advance_2 23 rfl rfl
theorem dksX1_advance_4 : cX1_advance.data.toList.drop 94 = dktX1_advance_4 := dk_seg dksX1_advance_3 23 rfl rfl
theorem dX1_advance_0 : decode cX1_advance 0 = .ok (.iload_n 1, 1) := dk_27 (dk_at dksX1_advance_0 0 rfl rfl)
theorem dX1_advance_1 : decode cX1_advance 1 = .ok (.iconst 1, 1) := dk_4 (dk_at dksX1_advance_0 1 rfl rfl)
theorem dX1_advance_2 : decode cX1_advance 2 = .ok (.sipush 500, 3) := dk_17 1 244 (dk_at dksX1_advance_0 2 rfl rfl)
theorem dX1_advance_5 : decode cX1_advance 5 = .ok (.invokestatic 47, 3) := dk_184 0 47 (dk_at dksX1_advance_0 5 rfl rfl)
theorem dX1_advance_8 : decode cX1_advance 8 = .ok (.invokestatic 51, 3) := dk_184 0 51 (dk_at dksX1_advance_0 8 rfl rfl)
theorem dX1_advance_11 : decode cX1_advance 11 = .ok (.aload_n 0, 1) := dk_42 (dk_at dksX1_advance_0 11 rfl rfl)
theorem dX1_advance_12 : decode cX1_advance 12 = .ok (.getfield 324, 3) := dk_180 1 68 (dk_at dksX1_advance_0 12 rfl rfl)
theorem dX1_advance_15 : decode cX1_advance 15 = .ok (.iload_n 1, 1) := dk_27 (dk_at dksX1_advance_0 15 rfl rfl)
theorem dX1_advance_16 : decode cX1_advance 16 = .ok (.iadd, 1) := dk_96 (dk_at dksX1_advance_0 16 rfl rfl)
theorem dX1_advance_17 : decode cX1_advance 17 = .ok (.sipush 5000, 3) := dk_17 19 136 (dk_at dksX1_advance_0 17 rfl rfl)
theorem dX1_advance_20 : decode cX1_advance 20 = .ok (.if_icmp .gt 7, 3) := dk_163 0 7 (dk_at dksX1_advance_0 20 rfl rfl)
theorem dX1_advance_23 : decode cX1_advance 23 = .ok (.iconst 1, 1) := dk_4 (dk_at dksX1_advance_0 23 rfl rfl)
theorem dX1_advance_24 : decode cX1_advance 24 = .ok (.goto 4, 3) := dk_167 0 4 (dk_at dksX1_advance_1 0 rfl rfl)
theorem dX1_advance_27 : decode cX1_advance 27 = .ok (.iconst 0, 1) := dk_3 (dk_at dksX1_advance_1 3 rfl rfl)
theorem dX1_advance_28 : decode cX1_advance 28 = .ok (.invokestatic 59, 3) := dk_184 0 59 (dk_at dksX1_advance_1 4 rfl rfl)
theorem dX1_advance_31 : decode cX1_advance 31 = .ok (.iconst 0, 1) := dk_3 (dk_at dksX1_advance_1 7 rfl rfl)
theorem dX1_advance_32 : decode cX1_advance 32 = .ok (.istore_n 2, 1) := dk_61 (dk_at dksX1_advance_1 8 rfl rfl)
theorem dX1_advance_33 : decode cX1_advance 33 = .ok (.iload_n 2, 1) := dk_28 (dk_at dksX1_advance_1 9 rfl rfl)
theorem dX1_advance_34 : decode cX1_advance 34 = .ok (.iload_n 1, 1) := dk_27 (dk_at dksX1_advance_1 10 rfl rfl)
theorem dX1_advance_35 : decode cX1_advance 35 = .ok (.if_icmp .ge 72, 3) := dk_162 0 72 (dk_at dksX1_advance_1 11 rfl rfl)
theorem dX1_advance_38 : decode cX1_advance 38 = .ok (.aload_n 0, 1) := dk_42 (dk_at dksX1_advance_1 14 rfl rfl)
theorem dX1_advance_39 : decode cX1_advance 39 = .ok (.dup, 1) := dk_89 (dk_at dksX1_advance_1 15 rfl rfl)
theorem dX1_advance_40 : decode cX1_advance 40 = .ok (.getfield 324, 3) := dk_180 1 68 (dk_at dksX1_advance_1 16 rfl rfl)
theorem dX1_advance_43 : decode cX1_advance 43 = .ok (.iconst 1, 1) := dk_4 (dk_at dksX1_advance_1 19 rfl rfl)
theorem dX1_advance_44 : decode cX1_advance 44 = .ok (.iadd, 1) := dk_96 (dk_at dksX1_advance_1 20 rfl rfl)
theorem dX1_advance_45 : decode cX1_advance 45 = .ok (.putfield 324, 3) := dk_181 1 68 (dk_at dksX1_advance_1 21 rfl rfl)
theorem dX1_advance_48 : decode cX1_advance 48 = .ok (.aload_n 0, 1) := dk_42 (dk_at dksX1_advance_2 0 rfl rfl)
theorem dX1_advance_49 : decode cX1_advance 49 = .ok (.getfield 25, 3) := dk_180 0 25 (dk_at dksX1_advance_2 1 rfl rfl)
theorem dX1_advance_52 : decode cX1_advance 52 = .ok (.invokevirtual 155, 3) := dk_182 0 155 (dk_at dksX1_advance_2 4 rfl rfl)
theorem dX1_advance_55 : decode cX1_advance 55 = .ok (.astore_n 3, 1) := dk_78 (dk_at dksX1_advance_2 7 rfl rfl)
theorem dX1_advance_56 : decode cX1_advance 56 = .ok (.aload_n 3, 1) := dk_45 (dk_at dksX1_advance_2 8 rfl rfl)
theorem dX1_advance_57 : decode cX1_advance 57 = .ok (.invokeinterface 159 1, 5) := by decide +kernel
theorem dX1_advance_62 : decode cX1_advance 62 = .ok (.ifCond .eq 35, 3) := dk_153 0 35 (dk_at dksX1_advance_2 14 rfl rfl)
theorem dX1_advance_65 : decode cX1_advance 65 = .ok (.aload_n 3, 1) := dk_45 (dk_at dksX1_advance_2 17 rfl rfl)
theorem dX1_advance_66 : decode cX1_advance 66 = .ok (.invokeinterface 165 1, 5) := by decide +kernel
theorem dX1_advance_71 : decode cX1_advance 71 = .ok (.checkcast 62, 3) := dk_192 0 62 (dk_at dksX1_advance_3 0 rfl rfl)
theorem dX1_advance_74 : decode cX1_advance 74 = .ok (.astore 4, 2) := dk_58 4 (dk_at dksX1_advance_3 3 rfl rfl)
theorem dX1_advance_76 : decode cX1_advance 76 = .ok (.aload 4, 2) := dk_25 4 (dk_at dksX1_advance_3 5 rfl rfl)
theorem dX1_advance_78 : decode cX1_advance 78 = .ok (.aload_n 0, 1) := dk_42 (dk_at dksX1_advance_3 7 rfl rfl)
theorem dX1_advance_79 : decode cX1_advance 79 = .ok (.getfield 324, 3) := dk_180 1 68 (dk_at dksX1_advance_3 8 rfl rfl)
theorem dX1_advance_82 : decode cX1_advance 82 = .ok (.invokevirtual 397, 3) := dk_182 1 141 (dk_at dksX1_advance_3 11 rfl rfl)
theorem dX1_advance_85 : decode cX1_advance 85 = .ok (.ifCond .eq 9, 3) := dk_153 0 9 (dk_at dksX1_advance_3 14 rfl rfl)
theorem dX1_advance_88 : decode cX1_advance 88 = .ok (.aload_n 0, 1) := dk_42 (dk_at dksX1_advance_3 17 rfl rfl)
theorem dX1_advance_89 : decode cX1_advance 89 = .ok (.aload 4, 2) := dk_25 4 (dk_at dksX1_advance_3 18 rfl rfl)
theorem dX1_advance_91 : decode cX1_advance 91 = .ok (.invokevirtual 400, 3) := dk_182 1 144 (dk_at dksX1_advance_3 20 rfl rfl)
theorem dX1_advance_94 : decode cX1_advance 94 = .ok (.goto (-38), 3) := dk_167 255 218 (dk_at dksX1_advance_4 0 rfl rfl)
theorem dX1_advance_97 : decode cX1_advance 97 = .ok (.aload_n 0, 1) := dk_42 (dk_at dksX1_advance_4 3 rfl rfl)
theorem dX1_advance_98 : decode cX1_advance 98 = .ok (.invokevirtual 295, 3) := dk_182 1 39 (dk_at dksX1_advance_4 4 rfl rfl)
theorem dX1_advance_101 : decode cX1_advance 101 = .ok (.iinc 2 1, 3) := dk_132 2 1 (dk_at dksX1_advance_4 7 rfl rfl)
theorem dX1_advance_104 : decode cX1_advance 104 = .ok (.goto (-71), 3) := dk_167 255 185 (dk_at dksX1_advance_4 10 rfl rfl)
theorem dX1_advance_107 : decode cX1_advance 107 = .ok (.aload_n 0, 1) := dk_42 (dk_at dksX1_advance_4 13 rfl rfl)
theorem dX1_advance_108 : decode cX1_advance 108 = .ok (.getfield 324, 3) := dk_180 1 68 (dk_at dksX1_advance_4 14 rfl rfl)
theorem dX1_advance_111 : decode cX1_advance 111 = .ok (.ireturn, 1) := dk_172 (dk_at dksX1_advance_4 17 rfl rfl)
abbrev cX1_end : ByteArray := prog_1_method_39_code
def yX1_end : MethodName := ⟨RX1, "end", "(LFoundrymark$Machine;)V"⟩
def dkwX1_end_4 : List UInt8 := [181, 1, 42, 42, 44, 182, 1, 36, 177]
abbrev dktX1_end_4 : List UInt8 := dkwX1_end_4 ++ []
def dkwX1_end_3 : List UInt8 := [4, 181, 1, 78, 43, 42, 180, 1, 68, 43, 180, 1, 97, 96, 181, 1, 100, 44, 89, 180, 1, 42, 4, 96]
abbrev dktX1_end_3 : List UInt8 := dkwX1_end_3 ++ dktX1_end_4
def dkwX1_end_2 : List UInt8 := [180, 1, 35, 96, 181, 1, 91, 43, 180, 1, 91, 43, 180, 1, 94, 161, 0, 26, 43, 3, 181, 1, 91, 43]
abbrev dktX1_end_2 : List UInt8 := dkwX1_end_2 ++ dktX1_end_3
def dkwX1_end_1 : List UInt8 := [89, 180, 1, 85, 42, 180, 1, 68, 43, 180, 1, 88, 100, 133, 97, 181, 1, 85, 43, 89, 180, 1, 91, 44]
abbrev dktX1_end_1 : List UInt8 := dkwX1_end_1 ++ dktX1_end_2
def dkwX1_end_0 : List UInt8 := [43, 180, 1, 78, 153, 0, 9, 43, 3, 181, 1, 78, 177, 43, 180, 1, 81, 77, 43, 1, 181, 1, 81, 43]
abbrev dktX1_end_0 : List UInt8 := dkwX1_end_0 ++ dktX1_end_1
theorem dksX1_end_0 : cX1_end.data.toList.drop 0 = dktX1_end_0 := by decide +kernel
theorem dksX1_end_1 : cX1_end.data.toList.drop 24 = dktX1_end_1 := dk_seg dksX1_end_0 24 rfl rfl
theorem dksX1_end_2 : cX1_end.data.toList.drop 48 = dktX1_end_2 := dk_seg dksX1_end_1 24 rfl rfl
theorem dksX1_end_3 : cX1_end.data.toList.drop 72 = dktX1_end_3 := dk_seg dksX1_end_2 24 rfl rfl
theorem dksX1_end_4 : cX1_end.data.toList.drop 96 = dktX1_end_4 := dk_seg dksX1_end_3 24 rfl rfl
theorem dX1_end_0 : decode cX1_end 0 = .ok (.aload_n 1, 1) := dk_43 (dk_at dksX1_end_0 0 rfl rfl)
theorem dX1_end_1 : decode cX1_end 1 = .ok (.getfield 334, 3) := dk_180 1 78 (dk_at dksX1_end_0 1 rfl rfl)
theorem dX1_end_4 : decode cX1_end 4 = .ok (.ifCond .eq 9, 3) := dk_153 0 9 (dk_at dksX1_end_0 4 rfl rfl)
theorem dX1_end_7 : decode cX1_end 7 = .ok (.aload_n 1, 1) := dk_43 (dk_at dksX1_end_0 7 rfl rfl)
theorem dX1_end_8 : decode cX1_end 8 = .ok (.iconst 0, 1) := dk_3 (dk_at dksX1_end_0 8 rfl rfl)
theorem dX1_end_9 : decode cX1_end 9 = .ok (.putfield 334, 3) := dk_181 1 78 (dk_at dksX1_end_0 9 rfl rfl)
theorem dX1_end_12 : decode cX1_end 12 = .ok (.return_, 1) := dk_177 (dk_at dksX1_end_0 12 rfl rfl)
theorem dX1_end_13 : decode cX1_end 13 = .ok (.aload_n 1, 1) := dk_43 (dk_at dksX1_end_0 13 rfl rfl)
theorem dX1_end_14 : decode cX1_end 14 = .ok (.getfield 337, 3) := dk_180 1 81 (dk_at dksX1_end_0 14 rfl rfl)
theorem dX1_end_17 : decode cX1_end 17 = .ok (.astore_n 2, 1) := dk_77 (dk_at dksX1_end_0 17 rfl rfl)
theorem dX1_end_18 : decode cX1_end 18 = .ok (.aload_n 1, 1) := dk_43 (dk_at dksX1_end_0 18 rfl rfl)
theorem dX1_end_19 : decode cX1_end 19 = .ok (.aconst_null, 1) := dk_1 (dk_at dksX1_end_0 19 rfl rfl)
theorem dX1_end_20 : decode cX1_end 20 = .ok (.putfield 337, 3) := dk_181 1 81 (dk_at dksX1_end_0 20 rfl rfl)
theorem dX1_end_23 : decode cX1_end 23 = .ok (.aload_n 1, 1) := dk_43 (dk_at dksX1_end_0 23 rfl rfl)
theorem dX1_end_24 : decode cX1_end 24 = .ok (.dup, 1) := dk_89 (dk_at dksX1_end_1 0 rfl rfl)
theorem dX1_end_25 : decode cX1_end 25 = .ok (.getfield 341, 3) := dk_180 1 85 (dk_at dksX1_end_1 1 rfl rfl)
theorem dX1_end_28 : decode cX1_end 28 = .ok (.aload_n 0, 1) := dk_42 (dk_at dksX1_end_1 4 rfl rfl)
theorem dX1_end_29 : decode cX1_end 29 = .ok (.getfield 324, 3) := dk_180 1 68 (dk_at dksX1_end_1 5 rfl rfl)
theorem dX1_end_32 : decode cX1_end 32 = .ok (.aload_n 1, 1) := dk_43 (dk_at dksX1_end_1 8 rfl rfl)
theorem dX1_end_33 : decode cX1_end 33 = .ok (.getfield 344, 3) := dk_180 1 88 (dk_at dksX1_end_1 9 rfl rfl)
theorem dX1_end_36 : decode cX1_end 36 = .ok (.isub, 1) := dk_100 (dk_at dksX1_end_1 12 rfl rfl)
theorem dX1_end_37 : decode cX1_end 37 = .ok (.i2l, 1) := dk_133 (dk_at dksX1_end_1 13 rfl rfl)
theorem dX1_end_38 : decode cX1_end 38 = .ok (.ladd, 1) := dk_97 (dk_at dksX1_end_1 14 rfl rfl)
theorem dX1_end_39 : decode cX1_end 39 = .ok (.putfield 341, 3) := dk_181 1 85 (dk_at dksX1_end_1 15 rfl rfl)
theorem dX1_end_42 : decode cX1_end 42 = .ok (.aload_n 1, 1) := dk_43 (dk_at dksX1_end_1 18 rfl rfl)
theorem dX1_end_43 : decode cX1_end 43 = .ok (.dup, 1) := dk_89 (dk_at dksX1_end_1 19 rfl rfl)
theorem dX1_end_44 : decode cX1_end 44 = .ok (.getfield 347, 3) := dk_180 1 91 (dk_at dksX1_end_1 20 rfl rfl)
theorem dX1_end_47 : decode cX1_end 47 = .ok (.aload_n 2, 1) := dk_44 (dk_at dksX1_end_1 23 rfl rfl)
theorem dX1_end_48 : decode cX1_end 48 = .ok (.getfield 291, 3) := dk_180 1 35 (dk_at dksX1_end_2 0 rfl rfl)
theorem dX1_end_51 : decode cX1_end 51 = .ok (.iadd, 1) := dk_96 (dk_at dksX1_end_2 3 rfl rfl)
theorem dX1_end_52 : decode cX1_end 52 = .ok (.putfield 347, 3) := dk_181 1 91 (dk_at dksX1_end_2 4 rfl rfl)
theorem dX1_end_55 : decode cX1_end 55 = .ok (.aload_n 1, 1) := dk_43 (dk_at dksX1_end_2 7 rfl rfl)
theorem dX1_end_56 : decode cX1_end 56 = .ok (.getfield 347, 3) := dk_180 1 91 (dk_at dksX1_end_2 8 rfl rfl)
theorem dX1_end_59 : decode cX1_end 59 = .ok (.aload_n 1, 1) := dk_43 (dk_at dksX1_end_2 11 rfl rfl)
theorem dX1_end_60 : decode cX1_end 60 = .ok (.getfield 350, 3) := dk_180 1 94 (dk_at dksX1_end_2 12 rfl rfl)
theorem dX1_end_63 : decode cX1_end 63 = .ok (.if_icmp .lt 26, 3) := dk_161 0 26 (dk_at dksX1_end_2 15 rfl rfl)
theorem dX1_end_66 : decode cX1_end 66 = .ok (.aload_n 1, 1) := dk_43 (dk_at dksX1_end_2 18 rfl rfl)
theorem dX1_end_67 : decode cX1_end 67 = .ok (.iconst 0, 1) := dk_3 (dk_at dksX1_end_2 19 rfl rfl)
theorem dX1_end_68 : decode cX1_end 68 = .ok (.putfield 347, 3) := dk_181 1 91 (dk_at dksX1_end_2 20 rfl rfl)
theorem dX1_end_71 : decode cX1_end 71 = .ok (.aload_n 1, 1) := dk_43 (dk_at dksX1_end_2 23 rfl rfl)
theorem dX1_end_72 : decode cX1_end 72 = .ok (.iconst 1, 1) := dk_4 (dk_at dksX1_end_3 0 rfl rfl)
theorem dX1_end_73 : decode cX1_end 73 = .ok (.putfield 334, 3) := dk_181 1 78 (dk_at dksX1_end_3 1 rfl rfl)
theorem dX1_end_76 : decode cX1_end 76 = .ok (.aload_n 1, 1) := dk_43 (dk_at dksX1_end_3 4 rfl rfl)
theorem dX1_end_77 : decode cX1_end 77 = .ok (.aload_n 0, 1) := dk_42 (dk_at dksX1_end_3 5 rfl rfl)
theorem dX1_end_78 : decode cX1_end 78 = .ok (.getfield 324, 3) := dk_180 1 68 (dk_at dksX1_end_3 6 rfl rfl)
theorem dX1_end_81 : decode cX1_end 81 = .ok (.aload_n 1, 1) := dk_43 (dk_at dksX1_end_3 9 rfl rfl)
theorem dX1_end_82 : decode cX1_end 82 = .ok (.getfield 353, 3) := dk_180 1 97 (dk_at dksX1_end_3 10 rfl rfl)
theorem dX1_end_85 : decode cX1_end 85 = .ok (.iadd, 1) := dk_96 (dk_at dksX1_end_3 13 rfl rfl)
theorem dX1_end_86 : decode cX1_end 86 = .ok (.putfield 356, 3) := dk_181 1 100 (dk_at dksX1_end_3 14 rfl rfl)
theorem dX1_end_89 : decode cX1_end 89 = .ok (.aload_n 2, 1) := dk_44 (dk_at dksX1_end_3 17 rfl rfl)
theorem dX1_end_90 : decode cX1_end 90 = .ok (.dup, 1) := dk_89 (dk_at dksX1_end_3 18 rfl rfl)
theorem dX1_end_91 : decode cX1_end 91 = .ok (.getfield 298, 3) := dk_180 1 42 (dk_at dksX1_end_3 19 rfl rfl)
theorem dX1_end_94 : decode cX1_end 94 = .ok (.iconst 1, 1) := dk_4 (dk_at dksX1_end_3 22 rfl rfl)
theorem dX1_end_95 : decode cX1_end 95 = .ok (.iadd, 1) := dk_96 (dk_at dksX1_end_3 23 rfl rfl)
theorem dX1_end_96 : decode cX1_end 96 = .ok (.putfield 298, 3) := dk_181 1 42 (dk_at dksX1_end_4 0 rfl rfl)
theorem dX1_end_99 : decode cX1_end 99 = .ok (.aload_n 0, 1) := dk_42 (dk_at dksX1_end_4 3 rfl rfl)
theorem dX1_end_100 : decode cX1_end 100 = .ok (.aload_n 2, 1) := dk_44 (dk_at dksX1_end_4 4 rfl rfl)
theorem dX1_end_101 : decode cX1_end 101 = .ok (.invokevirtual 292, 3) := dk_182 1 36 (dk_at dksX1_end_4 5 rfl rfl)
theorem dX1_end_104 : decode cX1_end 104 = .ok (.return_, 1) := dk_177 (dk_at dksX1_end_4 8 rfl rfl)
abbrev cX1_deliver : ByteArray := prog_1_method_45_code
def yX1_deliver : MethodName := ⟨RX1, "deliver", "(I)Z"⟩
def dkwX1_deliver_10 : List UInt8 := [181, 0, 184, 4, 172]
abbrev dktX1_deliver_10 : List UInt8 := dkwX1_deliver_10 ++ []
def dkwX1_deliver_9 : List UInt8 := [44, 180, 1, 151, 25, 4, 182, 1, 154, 87, 44, 42, 180, 1, 68, 181, 1, 158, 44, 178, 1, 161]
abbrev dktX1_deliver_9 : List UInt8 := dkwX1_deliver_9 ++ dktX1_deliver_10
def dkwX1_deliver_8 : List UInt8 := [153, 0, 24, 25, 6, 185, 0, 165, 1, 0, 192, 0, 169, 58, 7, 25, 7, 184, 1, 32, 88, 167, 255, 228]
abbrev dktX1_deliver_8 : List UInt8 := dkwX1_deliver_8 ++ dktX1_deliver_9
def dkwX1_deliver_7 : List UInt8 := [167, 255, 197, 21, 5, 158, 0, 5, 3, 172, 25, 4, 182, 0, 155, 58, 6, 25, 6, 185, 0, 159, 1, 0]
abbrev dktX1_deliver_7 : List UInt8 := dkwX1_deliver_7 ++ dktX1_deliver_8
def dkwX1_deliver_6 : List UInt8 := [44, 180, 1, 74, 165, 0, 15, 25, 4, 25, 7, 21, 5, 184, 1, 147, 167, 0, 5, 21, 5, 54, 5]
abbrev dktX1_deliver_6 : List UInt8 := dkwX1_deliver_6 ++ dktX1_deliver_7
def dkwX1_deliver_5 : List UInt8 := [185, 0, 165, 1, 0, 192, 0, 113, 58, 7, 25, 7, 180, 0, 224, 44, 180, 0, 254, 166, 0, 24, 25, 7]
abbrev dktX1_deliver_5 : List UInt8 := dkwX1_deliver_5 ++ dktX1_deliver_6
def dkwX1_deliver_4 : List UInt8 := [180, 0, 34, 182, 0, 155, 58, 6, 25, 6, 185, 0, 159, 1, 0, 153, 0, 55, 25, 6]
abbrev dktX1_deliver_4 : List UInt8 := dkwX1_deliver_4 ++ dktX1_deliver_5
def dkwX1_deliver_3 : List UInt8 := [180, 1, 7, 167, 0, 16, 25, 4, 44, 180, 1, 74, 44, 180, 1, 7, 184, 1, 147, 54, 5, 42]
abbrev dktX1_deliver_3 : List UInt8 := dkwX1_deliver_3 ++ dktX1_deliver_4
def dkwX1_deliver_2 : List UInt8 := [167, 0, 4, 3, 184, 0, 92, 187, 0, 22, 89, 183, 0, 24, 58, 4, 44, 180, 1, 74, 199, 0, 10, 44]
abbrev dktX1_deliver_2 : List UInt8 := dkwX1_deliver_2 ++ dktX1_deliver_3
def dkwX1_deliver_1 : List UInt8 := [166, 0, 7, 4, 167, 0, 4, 3, 62, 29, 154, 0, 13, 44, 180, 0, 184, 178, 1, 65, 166, 0, 7, 4]
abbrev dktX1_deliver_1 : List UInt8 := dkwX1_deliver_1 ++ dktX1_deliver_2
def dkwX1_deliver_0 : List UInt8 := [42, 27, 182, 1, 15, 77, 44, 180, 0, 254, 193, 0, 76, 153, 0, 17, 44, 180, 0, 184, 178, 0, 200]
abbrev dktX1_deliver_0 : List UInt8 := dkwX1_deliver_0 ++ dktX1_deliver_1
theorem dksX1_deliver_0 : cX1_deliver.data.toList.drop 0 = dktX1_deliver_0 := by decide +kernel
theorem dksX1_deliver_1 : cX1_deliver.data.toList.drop 23 = dktX1_deliver_1 := dk_seg dksX1_deliver_0 23 rfl rfl
theorem dksX1_deliver_2 : cX1_deliver.data.toList.drop 47 = dktX1_deliver_2 := dk_seg dksX1_deliver_1 24 rfl rfl
theorem dksX1_deliver_3 : cX1_deliver.data.toList.drop 71 = dktX1_deliver_3 := dk_seg dksX1_deliver_2 24 rfl rfl
theorem dksX1_deliver_4 : cX1_deliver.data.toList.drop 93 = dktX1_deliver_4 := dk_seg dksX1_deliver_3 22 rfl rfl
theorem dksX1_deliver_5 : cX1_deliver.data.toList.drop 113 = dktX1_deliver_5 := dk_seg dksX1_deliver_4 20 rfl rfl
theorem dksX1_deliver_6 : cX1_deliver.data.toList.drop 137 = dktX1_deliver_6 := dk_seg dksX1_deliver_5 24 rfl rfl
theorem dksX1_deliver_7 : cX1_deliver.data.toList.drop 160 = dktX1_deliver_7 := dk_seg dksX1_deliver_6 23 rfl rfl
theorem dksX1_deliver_8 : cX1_deliver.data.toList.drop 184 = dktX1_deliver_8 := dk_seg dksX1_deliver_7 24 rfl rfl
theorem dksX1_deliver_9 : cX1_deliver.data.toList.drop 208 = dktX1_deliver_9 := dk_seg dksX1_deliver_8 24 rfl rfl
theorem dksX1_deliver_10 : cX1_deliver.data.toList.drop 230 = dktX1_deliver_10 := dk_seg dksX1_deliver_9 22 rfl rfl
theorem dX1_deliver_0 : decode cX1_deliver 0 = .ok (.aload_n 0, 1) := dk_42 (dk_at dksX1_deliver_0 0 rfl rfl)
theorem dX1_deliver_1 : decode cX1_deliver 1 = .ok (.iload_n 1, 1) := dk_27 (dk_at dksX1_deliver_0 1 rfl rfl)
theorem dX1_deliver_2 : decode cX1_deliver 2 = .ok (.invokevirtual 271, 3) := dk_182 1 15 (dk_at dksX1_deliver_0 2 rfl rfl)
theorem dX1_deliver_5 : decode cX1_deliver 5 = .ok (.astore_n 2, 1) := dk_77 (dk_at dksX1_deliver_0 5 rfl rfl)
theorem dX1_deliver_6 : decode cX1_deliver 6 = .ok (.aload_n 2, 1) := dk_44 (dk_at dksX1_deliver_0 6 rfl rfl)
theorem dX1_deliver_7 : decode cX1_deliver 7 = .ok (.getfield 254, 3) := dk_180 0 254 (dk_at dksX1_deliver_0 7 rfl rfl)
theorem dX1_deliver_10 : decode cX1_deliver 10 = .ok (.instanceof 76, 3) := dk_193 0 76 (dk_at dksX1_deliver_0 10 rfl rfl)
theorem dX1_deliver_13 : decode cX1_deliver 13 = .ok (.ifCond .eq 17, 3) := dk_153 0 17 (dk_at dksX1_deliver_0 13 rfl rfl)
theorem dX1_deliver_16 : decode cX1_deliver 16 = .ok (.aload_n 2, 1) := dk_44 (dk_at dksX1_deliver_0 16 rfl rfl)
theorem dX1_deliver_17 : decode cX1_deliver 17 = .ok (.getfield 184, 3) := dk_180 0 184 (dk_at dksX1_deliver_0 17 rfl rfl)
theorem dX1_deliver_20 : decode cX1_deliver 20 = .ok (.getstatic 200, 3) := dk_178 0 200 (dk_at dksX1_deliver_0 20 rfl rfl)
theorem dX1_deliver_23 : decode cX1_deliver 23 = .ok (.if_acmp .ne 7, 3) := dk_166 0 7 (dk_at dksX1_deliver_1 0 rfl rfl)
theorem dX1_deliver_26 : decode cX1_deliver 26 = .ok (.iconst 1, 1) := dk_4 (dk_at dksX1_deliver_1 3 rfl rfl)
theorem dX1_deliver_27 : decode cX1_deliver 27 = .ok (.goto 4, 3) := dk_167 0 4 (dk_at dksX1_deliver_1 4 rfl rfl)
theorem dX1_deliver_30 : decode cX1_deliver 30 = .ok (.iconst 0, 1) := dk_3 (dk_at dksX1_deliver_1 7 rfl rfl)
theorem dX1_deliver_31 : decode cX1_deliver 31 = .ok (.istore_n 3, 1) := dk_62 (dk_at dksX1_deliver_1 8 rfl rfl)
theorem dX1_deliver_32 : decode cX1_deliver 32 = .ok (.iload_n 3, 1) := dk_29 (dk_at dksX1_deliver_1 9 rfl rfl)
theorem dX1_deliver_33 : decode cX1_deliver 33 = .ok (.ifCond .ne 13, 3) := dk_154 0 13 (dk_at dksX1_deliver_1 10 rfl rfl)
theorem dX1_deliver_36 : decode cX1_deliver 36 = .ok (.aload_n 2, 1) := dk_44 (dk_at dksX1_deliver_1 13 rfl rfl)
theorem dX1_deliver_37 : decode cX1_deliver 37 = .ok (.getfield 184, 3) := dk_180 0 184 (dk_at dksX1_deliver_1 14 rfl rfl)
theorem dX1_deliver_40 : decode cX1_deliver 40 = .ok (.getstatic 321, 3) := dk_178 1 65 (dk_at dksX1_deliver_1 17 rfl rfl)
theorem dX1_deliver_43 : decode cX1_deliver 43 = .ok (.if_acmp .ne 7, 3) := dk_166 0 7 (dk_at dksX1_deliver_1 20 rfl rfl)
theorem dX1_deliver_46 : decode cX1_deliver 46 = .ok (.iconst 1, 1) := dk_4 (dk_at dksX1_deliver_1 23 rfl rfl)
theorem dX1_deliver_47 : decode cX1_deliver 47 = .ok (.goto 4, 3) := dk_167 0 4 (dk_at dksX1_deliver_2 0 rfl rfl)
theorem dX1_deliver_50 : decode cX1_deliver 50 = .ok (.iconst 0, 1) := dk_3 (dk_at dksX1_deliver_2 3 rfl rfl)
theorem dX1_deliver_51 : decode cX1_deliver 51 = .ok (.invokestatic 92, 3) := dk_184 0 92 (dk_at dksX1_deliver_2 4 rfl rfl)
theorem dX1_deliver_54 : decode cX1_deliver 54 = .ok (.new 22, 3) := dk_187 0 22 (dk_at dksX1_deliver_2 7 rfl rfl)
theorem dX1_deliver_57 : decode cX1_deliver 57 = .ok (.dup, 1) := dk_89 (dk_at dksX1_deliver_2 10 rfl rfl)
theorem dX1_deliver_58 : decode cX1_deliver 58 = .ok (.invokespecial 24, 3) := dk_183 0 24 (dk_at dksX1_deliver_2 11 rfl rfl)
theorem dX1_deliver_61 : decode cX1_deliver 61 = .ok (.astore 4, 2) := dk_58 4 (dk_at dksX1_deliver_2 14 rfl rfl)
theorem dX1_deliver_63 : decode cX1_deliver 63 = .ok (.aload_n 2, 1) := dk_44 (dk_at dksX1_deliver_2 16 rfl rfl)
theorem dX1_deliver_64 : decode cX1_deliver 64 = .ok (.getfield 330, 3) := dk_180 1 74 (dk_at dksX1_deliver_2 17 rfl rfl)
theorem dX1_deliver_67 : decode cX1_deliver 67 = .ok (.ifnonnull 10, 3) := dk_199 0 10 (dk_at dksX1_deliver_2 20 rfl rfl)
theorem dX1_deliver_70 : decode cX1_deliver 70 = .ok (.aload_n 2, 1) := dk_44 (dk_at dksX1_deliver_2 23 rfl rfl)
theorem dX1_deliver_71 : decode cX1_deliver 71 = .ok (.getfield 263, 3) := dk_180 1 7 (dk_at dksX1_deliver_3 0 rfl rfl)
theorem dX1_deliver_74 : decode cX1_deliver 74 = .ok (.goto 16, 3) := dk_167 0 16 (dk_at dksX1_deliver_3 3 rfl rfl)
theorem dX1_deliver_77 : decode cX1_deliver 77 = .ok (.aload 4, 2) := dk_25 4 (dk_at dksX1_deliver_3 6 rfl rfl)
theorem dX1_deliver_79 : decode cX1_deliver 79 = .ok (.aload_n 2, 1) := dk_44 (dk_at dksX1_deliver_3 8 rfl rfl)
theorem dX1_deliver_80 : decode cX1_deliver 80 = .ok (.getfield 330, 3) := dk_180 1 74 (dk_at dksX1_deliver_3 9 rfl rfl)
theorem dX1_deliver_83 : decode cX1_deliver 83 = .ok (.aload_n 2, 1) := dk_44 (dk_at dksX1_deliver_3 12 rfl rfl)
theorem dX1_deliver_84 : decode cX1_deliver 84 = .ok (.getfield 263, 3) := dk_180 1 7 (dk_at dksX1_deliver_3 13 rfl rfl)
theorem dX1_deliver_87 : decode cX1_deliver 87 = .ok (.invokestatic 403, 3) := dk_184 1 147 (dk_at dksX1_deliver_3 16 rfl rfl)
theorem dX1_deliver_90 : decode cX1_deliver 90 = .ok (.istore 5, 2) := dk_54 5 (dk_at dksX1_deliver_3 19 rfl rfl)
theorem dX1_deliver_92 : decode cX1_deliver 92 = .ok (.aload_n 0, 1) := dk_42 (dk_at dksX1_deliver_3 21 rfl rfl)
theorem dX1_deliver_93 : decode cX1_deliver 93 = .ok (.getfield 34, 3) := dk_180 0 34 (dk_at dksX1_deliver_4 0 rfl rfl)
theorem dX1_deliver_96 : decode cX1_deliver 96 = .ok (.invokevirtual 155, 3) := dk_182 0 155 (dk_at dksX1_deliver_4 3 rfl rfl)
theorem dX1_deliver_99 : decode cX1_deliver 99 = .ok (.astore 6, 2) := dk_58 6 (dk_at dksX1_deliver_4 6 rfl rfl)
theorem dX1_deliver_101 : decode cX1_deliver 101 = .ok (.aload 6, 2) := dk_25 6 (dk_at dksX1_deliver_4 8 rfl rfl)
theorem dX1_deliver_103 : decode cX1_deliver 103 = .ok (.invokeinterface 159 1, 5) := by decide +kernel
theorem dX1_deliver_108 : decode cX1_deliver 108 = .ok (.ifCond .eq 55, 3) := dk_153 0 55 (dk_at dksX1_deliver_4 15 rfl rfl)
theorem dX1_deliver_111 : decode cX1_deliver 111 = .ok (.aload 6, 2) := dk_25 6 (dk_at dksX1_deliver_4 18 rfl rfl)
theorem dX1_deliver_113 : decode cX1_deliver 113 = .ok (.invokeinterface 165 1, 5) := by decide +kernel
theorem dX1_deliver_118 : decode cX1_deliver 118 = .ok (.checkcast 113, 3) := dk_192 0 113 (dk_at dksX1_deliver_5 5 rfl rfl)
theorem dX1_deliver_121 : decode cX1_deliver 121 = .ok (.astore 7, 2) := dk_58 7 (dk_at dksX1_deliver_5 8 rfl rfl)
theorem dX1_deliver_123 : decode cX1_deliver 123 = .ok (.aload 7, 2) := dk_25 7 (dk_at dksX1_deliver_5 10 rfl rfl)
theorem dX1_deliver_125 : decode cX1_deliver 125 = .ok (.getfield 224, 3) := dk_180 0 224 (dk_at dksX1_deliver_5 12 rfl rfl)
theorem dX1_deliver_128 : decode cX1_deliver 128 = .ok (.aload_n 2, 1) := dk_44 (dk_at dksX1_deliver_5 15 rfl rfl)
theorem dX1_deliver_129 : decode cX1_deliver 129 = .ok (.getfield 254, 3) := dk_180 0 254 (dk_at dksX1_deliver_5 16 rfl rfl)
theorem dX1_deliver_132 : decode cX1_deliver 132 = .ok (.if_acmp .ne 24, 3) := dk_166 0 24 (dk_at dksX1_deliver_5 19 rfl rfl)
theorem dX1_deliver_135 : decode cX1_deliver 135 = .ok (.aload 7, 2) := dk_25 7 (dk_at dksX1_deliver_5 22 rfl rfl)
theorem dX1_deliver_137 : decode cX1_deliver 137 = .ok (.aload_n 2, 1) := dk_44 (dk_at dksX1_deliver_6 0 rfl rfl)
theorem dX1_deliver_138 : decode cX1_deliver 138 = .ok (.getfield 330, 3) := dk_180 1 74 (dk_at dksX1_deliver_6 1 rfl rfl)
theorem dX1_deliver_141 : decode cX1_deliver 141 = .ok (.if_acmp .eq 15, 3) := dk_165 0 15 (dk_at dksX1_deliver_6 4 rfl rfl)
theorem dX1_deliver_144 : decode cX1_deliver 144 = .ok (.aload 4, 2) := dk_25 4 (dk_at dksX1_deliver_6 7 rfl rfl)
theorem dX1_deliver_146 : decode cX1_deliver 146 = .ok (.aload 7, 2) := dk_25 7 (dk_at dksX1_deliver_6 9 rfl rfl)
theorem dX1_deliver_148 : decode cX1_deliver 148 = .ok (.iload 5, 2) := dk_21 5 (dk_at dksX1_deliver_6 11 rfl rfl)
theorem dX1_deliver_150 : decode cX1_deliver 150 = .ok (.invokestatic 403, 3) := dk_184 1 147 (dk_at dksX1_deliver_6 13 rfl rfl)
theorem dX1_deliver_153 : decode cX1_deliver 153 = .ok (.goto 5, 3) := dk_167 0 5 (dk_at dksX1_deliver_6 16 rfl rfl)
theorem dX1_deliver_156 : decode cX1_deliver 156 = .ok (.iload 5, 2) := dk_21 5 (dk_at dksX1_deliver_6 19 rfl rfl)
theorem dX1_deliver_158 : decode cX1_deliver 158 = .ok (.istore 5, 2) := dk_54 5 (dk_at dksX1_deliver_6 21 rfl rfl)
theorem dX1_deliver_160 : decode cX1_deliver 160 = .ok (.goto (-59), 3) := dk_167 255 197 (dk_at dksX1_deliver_7 0 rfl rfl)
theorem dX1_deliver_163 : decode cX1_deliver 163 = .ok (.iload 5, 2) := dk_21 5 (dk_at dksX1_deliver_7 3 rfl rfl)
theorem dX1_deliver_165 : decode cX1_deliver 165 = .ok (.ifCond .le 5, 3) := dk_158 0 5 (dk_at dksX1_deliver_7 5 rfl rfl)
theorem dX1_deliver_168 : decode cX1_deliver 168 = .ok (.iconst 0, 1) := dk_3 (dk_at dksX1_deliver_7 8 rfl rfl)
theorem dX1_deliver_169 : decode cX1_deliver 169 = .ok (.ireturn, 1) := dk_172 (dk_at dksX1_deliver_7 9 rfl rfl)
theorem dX1_deliver_170 : decode cX1_deliver 170 = .ok (.aload 4, 2) := dk_25 4 (dk_at dksX1_deliver_7 10 rfl rfl)
theorem dX1_deliver_172 : decode cX1_deliver 172 = .ok (.invokevirtual 155, 3) := dk_182 0 155 (dk_at dksX1_deliver_7 12 rfl rfl)
theorem dX1_deliver_175 : decode cX1_deliver 175 = .ok (.astore 6, 2) := dk_58 6 (dk_at dksX1_deliver_7 15 rfl rfl)
theorem dX1_deliver_177 : decode cX1_deliver 177 = .ok (.aload 6, 2) := dk_25 6 (dk_at dksX1_deliver_7 17 rfl rfl)
theorem dX1_deliver_179 : decode cX1_deliver 179 = .ok (.invokeinterface 159 1, 5) := by decide +kernel
theorem dX1_deliver_184 : decode cX1_deliver 184 = .ok (.ifCond .eq 24, 3) := dk_153 0 24 (dk_at dksX1_deliver_8 0 rfl rfl)
theorem dX1_deliver_187 : decode cX1_deliver 187 = .ok (.aload 6, 2) := dk_25 6 (dk_at dksX1_deliver_8 3 rfl rfl)
theorem dX1_deliver_189 : decode cX1_deliver 189 = .ok (.invokeinterface 165 1, 5) := by decide +kernel
theorem dX1_deliver_194 : decode cX1_deliver 194 = .ok (.checkcast 169, 3) := dk_192 0 169 (dk_at dksX1_deliver_8 10 rfl rfl)
theorem dX1_deliver_197 : decode cX1_deliver 197 = .ok (.astore 7, 2) := dk_58 7 (dk_at dksX1_deliver_8 13 rfl rfl)
theorem dX1_deliver_199 : decode cX1_deliver 199 = .ok (.aload 7, 2) := dk_25 7 (dk_at dksX1_deliver_8 15 rfl rfl)
theorem dX1_deliver_201 : decode cX1_deliver 201 = .ok (.invokestatic 288, 3) := dk_184 1 32 (dk_at dksX1_deliver_8 17 rfl rfl)
theorem dX1_deliver_204 : decode cX1_deliver 204 = .ok (.pop2, 1) := dk_88 (dk_at dksX1_deliver_8 20 rfl rfl)
theorem dX1_deliver_205 : decode cX1_deliver 205 = .ok (.goto (-28), 3) := dk_167 255 228 (dk_at dksX1_deliver_8 21 rfl rfl)
theorem dX1_deliver_208 : decode cX1_deliver 208 = .ok (.aload_n 2, 1) := dk_44 (dk_at dksX1_deliver_9 0 rfl rfl)
theorem dX1_deliver_209 : decode cX1_deliver 209 = .ok (.getfield 407, 3) := dk_180 1 151 (dk_at dksX1_deliver_9 1 rfl rfl)
theorem dX1_deliver_212 : decode cX1_deliver 212 = .ok (.aload 4, 2) := dk_25 4 (dk_at dksX1_deliver_9 4 rfl rfl)
theorem dX1_deliver_214 : decode cX1_deliver 214 = .ok (.invokevirtual 410, 3) := dk_182 1 154 (dk_at dksX1_deliver_9 6 rfl rfl)
theorem dX1_deliver_217 : decode cX1_deliver 217 = .ok (.pop, 1) := dk_87 (dk_at dksX1_deliver_9 9 rfl rfl)
theorem dX1_deliver_218 : decode cX1_deliver 218 = .ok (.aload_n 2, 1) := dk_44 (dk_at dksX1_deliver_9 10 rfl rfl)
theorem dX1_deliver_219 : decode cX1_deliver 219 = .ok (.aload_n 0, 1) := dk_42 (dk_at dksX1_deliver_9 11 rfl rfl)
theorem dX1_deliver_220 : decode cX1_deliver 220 = .ok (.getfield 324, 3) := dk_180 1 68 (dk_at dksX1_deliver_9 12 rfl rfl)
theorem dX1_deliver_223 : decode cX1_deliver 223 = .ok (.putfield 414, 3) := dk_181 1 158 (dk_at dksX1_deliver_9 15 rfl rfl)
theorem dX1_deliver_226 : decode cX1_deliver 226 = .ok (.aload_n 2, 1) := dk_44 (dk_at dksX1_deliver_9 18 rfl rfl)
theorem dX1_deliver_227 : decode cX1_deliver 227 = .ok (.getstatic 417, 3) := dk_178 1 161 (dk_at dksX1_deliver_9 19 rfl rfl)
theorem dX1_deliver_230 : decode cX1_deliver 230 = .ok (.putfield 184, 3) := dk_181 0 184 (dk_at dksX1_deliver_10 0 rfl rfl)
theorem dX1_deliver_233 : decode cX1_deliver 233 = .ok (.iconst 1, 1) := dk_4 (dk_at dksX1_deliver_10 3 rfl rfl)
theorem dX1_deliver_234 : decode cX1_deliver 234 = .ok (.ireturn, 1) := dk_172 (dk_at dksX1_deliver_10 4 rfl rfl)
abbrev cX1_plan : ByteArray := prog_1_method_44_code
def yX1_plan : MethodName := ⟨RX1, "plan", "(Ljava/util/ArrayList;LFoundrymark$Lot;I)I"⟩
def dkwX1_plan_1 : List UInt8 := [62, 29, 158, 0, 17, 42, 187, 0, 169, 89, 43, 29, 183, 0, 246, 182, 0, 67, 87, 28, 29, 100, 172]
abbrev dktX1_plan_1 : List UInt8 := dkwX1_plan_1 ++ []
def dkwX1_plan_0 : List UInt8 := [43, 182, 0, 193, 153, 0, 7, 3, 167, 0, 16, 43, 180, 0, 231, 43, 180, 0, 175, 100, 28, 184, 0, 240]
abbrev dktX1_plan_0 : List UInt8 := dkwX1_plan_0 ++ dktX1_plan_1
theorem dksX1_plan_0 : cX1_plan.data.toList.drop 0 = dktX1_plan_0 := by decide +kernel
theorem dksX1_plan_1 : cX1_plan.data.toList.drop 24 = dktX1_plan_1 := dk_seg dksX1_plan_0 24 rfl rfl
theorem dX1_plan_0 : decode cX1_plan 0 = .ok (.aload_n 1, 1) := dk_43 (dk_at dksX1_plan_0 0 rfl rfl)
theorem dX1_plan_1 : decode cX1_plan 1 = .ok (.invokevirtual 193, 3) := dk_182 0 193 (dk_at dksX1_plan_0 1 rfl rfl)
theorem dX1_plan_4 : decode cX1_plan 4 = .ok (.ifCond .eq 7, 3) := dk_153 0 7 (dk_at dksX1_plan_0 4 rfl rfl)
theorem dX1_plan_7 : decode cX1_plan 7 = .ok (.iconst 0, 1) := dk_3 (dk_at dksX1_plan_0 7 rfl rfl)
theorem dX1_plan_8 : decode cX1_plan 8 = .ok (.goto 16, 3) := dk_167 0 16 (dk_at dksX1_plan_0 8 rfl rfl)
theorem dX1_plan_11 : decode cX1_plan 11 = .ok (.aload_n 1, 1) := dk_43 (dk_at dksX1_plan_0 11 rfl rfl)
theorem dX1_plan_12 : decode cX1_plan 12 = .ok (.getfield 231, 3) := dk_180 0 231 (dk_at dksX1_plan_0 12 rfl rfl)
theorem dX1_plan_15 : decode cX1_plan 15 = .ok (.aload_n 1, 1) := dk_43 (dk_at dksX1_plan_0 15 rfl rfl)
theorem dX1_plan_16 : decode cX1_plan 16 = .ok (.getfield 175, 3) := dk_180 0 175 (dk_at dksX1_plan_0 16 rfl rfl)
theorem dX1_plan_19 : decode cX1_plan 19 = .ok (.isub, 1) := dk_100 (dk_at dksX1_plan_0 19 rfl rfl)
theorem dX1_plan_20 : decode cX1_plan 20 = .ok (.iload_n 2, 1) := dk_28 (dk_at dksX1_plan_0 20 rfl rfl)
theorem dX1_plan_21 : decode cX1_plan 21 = .ok (.invokestatic 240, 3) := dk_184 0 240 (dk_at dksX1_plan_0 21 rfl rfl)
theorem dX1_plan_24 : decode cX1_plan 24 = .ok (.istore_n 3, 1) := dk_62 (dk_at dksX1_plan_1 0 rfl rfl)
theorem dX1_plan_25 : decode cX1_plan 25 = .ok (.iload_n 3, 1) := dk_29 (dk_at dksX1_plan_1 1 rfl rfl)
theorem dX1_plan_26 : decode cX1_plan 26 = .ok (.ifCond .le 17, 3) := dk_158 0 17 (dk_at dksX1_plan_1 2 rfl rfl)
theorem dX1_plan_29 : decode cX1_plan 29 = .ok (.aload_n 0, 1) := dk_42 (dk_at dksX1_plan_1 5 rfl rfl)
theorem dX1_plan_30 : decode cX1_plan 30 = .ok (.new 169, 3) := dk_187 0 169 (dk_at dksX1_plan_1 6 rfl rfl)
theorem dX1_plan_33 : decode cX1_plan 33 = .ok (.dup, 1) := dk_89 (dk_at dksX1_plan_1 9 rfl rfl)
theorem dX1_plan_34 : decode cX1_plan 34 = .ok (.aload_n 1, 1) := dk_43 (dk_at dksX1_plan_1 10 rfl rfl)
theorem dX1_plan_35 : decode cX1_plan 35 = .ok (.iload_n 3, 1) := dk_29 (dk_at dksX1_plan_1 11 rfl rfl)
theorem dX1_plan_36 : decode cX1_plan 36 = .ok (.invokespecial 246, 3) := dk_183 0 246 (dk_at dksX1_plan_1 12 rfl rfl)
theorem dX1_plan_39 : decode cX1_plan 39 = .ok (.invokevirtual 67, 3) := dk_182 0 67 (dk_at dksX1_plan_1 15 rfl rfl)
theorem dX1_plan_42 : decode cX1_plan 42 = .ok (.pop, 1) := dk_87 (dk_at dksX1_plan_1 18 rfl rfl)
theorem dX1_plan_43 : decode cX1_plan 43 = .ok (.iload_n 2, 1) := dk_28 (dk_at dksX1_plan_1 19 rfl rfl)
theorem dX1_plan_44 : decode cX1_plan 44 = .ok (.iload_n 3, 1) := dk_29 (dk_at dksX1_plan_1 20 rfl rfl)
theorem dX1_plan_45 : decode cX1_plan 45 = .ok (.isub, 1) := dk_100 (dk_at dksX1_plan_1 21 rfl rfl)
theorem dX1_plan_46 : decode cX1_plan 46 = .ok (.ireturn, 1) := dk_172 (dk_at dksX1_plan_1 22 rfl rfl)
abbrev cX1_stateOf : ByteArray := prog_1_method_46_code
def yX1_stateOf : MethodName := ⟨RX1, "stateOf", "(I)C"⟩
def dkwX1_stateOf_0 : List UInt8 := [42, 27, 182, 1, 15, 180, 0, 184, 180, 1, 164, 172]
abbrev dktX1_stateOf_0 : List UInt8 := dkwX1_stateOf_0 ++ []
theorem dksX1_stateOf_0 : cX1_stateOf.data.toList.drop 0 = dktX1_stateOf_0 := by decide +kernel
theorem dX1_stateOf_0 : decode cX1_stateOf 0 = .ok (.aload_n 0, 1) := dk_42 (dk_at dksX1_stateOf_0 0 rfl rfl)
theorem dX1_stateOf_1 : decode cX1_stateOf 1 = .ok (.iload_n 1, 1) := dk_27 (dk_at dksX1_stateOf_0 1 rfl rfl)
theorem dX1_stateOf_2 : decode cX1_stateOf 2 = .ok (.invokevirtual 271, 3) := dk_182 1 15 (dk_at dksX1_stateOf_0 2 rfl rfl)
theorem dX1_stateOf_5 : decode cX1_stateOf 5 = .ok (.getfield 184, 3) := dk_180 0 184 (dk_at dksX1_stateOf_0 5 rfl rfl)
theorem dX1_stateOf_8 : decode cX1_stateOf 8 = .ok (.getfield 420, 3) := dk_180 1 164 (dk_at dksX1_stateOf_0 8 rfl rfl)
theorem dX1_stateOf_11 : decode cX1_stateOf 11 = .ok (.ireturn, 1) := dk_172 (dk_at dksX1_stateOf_0 11 rfl rfl)
abbrev cX1_lotOf : ByteArray := prog_1_method_47_code
def yX1_lotOf : MethodName := ⟨RX1, "lotOf", "(I)I"⟩
def dkwX1_lotOf_1 : List UInt8 := [180, 1, 74, 180, 0, 137, 172]
abbrev dktX1_lotOf_1 : List UInt8 := dkwX1_lotOf_1 ++ []
def dkwX1_lotOf_0 : List UInt8 := [42, 27, 182, 1, 15, 77, 44, 180, 1, 74, 198, 0, 7, 4, 167, 0, 4, 3, 184, 1, 165, 44]
abbrev dktX1_lotOf_0 : List UInt8 := dkwX1_lotOf_0 ++ dktX1_lotOf_1
theorem dksX1_lotOf_0 : cX1_lotOf.data.toList.drop 0 = dktX1_lotOf_0 := by decide +kernel
theorem dksX1_lotOf_1 : cX1_lotOf.data.toList.drop 22 = dktX1_lotOf_1 := dk_seg dksX1_lotOf_0 22 rfl rfl
theorem dX1_lotOf_0 : decode cX1_lotOf 0 = .ok (.aload_n 0, 1) := dk_42 (dk_at dksX1_lotOf_0 0 rfl rfl)
theorem dX1_lotOf_1 : decode cX1_lotOf 1 = .ok (.iload_n 1, 1) := dk_27 (dk_at dksX1_lotOf_0 1 rfl rfl)
theorem dX1_lotOf_2 : decode cX1_lotOf 2 = .ok (.invokevirtual 271, 3) := dk_182 1 15 (dk_at dksX1_lotOf_0 2 rfl rfl)
theorem dX1_lotOf_5 : decode cX1_lotOf 5 = .ok (.astore_n 2, 1) := dk_77 (dk_at dksX1_lotOf_0 5 rfl rfl)
theorem dX1_lotOf_6 : decode cX1_lotOf 6 = .ok (.aload_n 2, 1) := dk_44 (dk_at dksX1_lotOf_0 6 rfl rfl)
theorem dX1_lotOf_7 : decode cX1_lotOf 7 = .ok (.getfield 330, 3) := dk_180 1 74 (dk_at dksX1_lotOf_0 7 rfl rfl)
theorem dX1_lotOf_10 : decode cX1_lotOf 10 = .ok (.ifnull 7, 3) := dk_198 0 7 (dk_at dksX1_lotOf_0 10 rfl rfl)
theorem dX1_lotOf_13 : decode cX1_lotOf 13 = .ok (.iconst 1, 1) := dk_4 (dk_at dksX1_lotOf_0 13 rfl rfl)
theorem dX1_lotOf_14 : decode cX1_lotOf 14 = .ok (.goto 4, 3) := dk_167 0 4 (dk_at dksX1_lotOf_0 14 rfl rfl)
theorem dX1_lotOf_17 : decode cX1_lotOf 17 = .ok (.iconst 0, 1) := dk_3 (dk_at dksX1_lotOf_0 17 rfl rfl)
theorem dX1_lotOf_18 : decode cX1_lotOf 18 = .ok (.invokestatic 421, 3) := dk_184 1 165 (dk_at dksX1_lotOf_0 18 rfl rfl)
theorem dX1_lotOf_21 : decode cX1_lotOf 21 = .ok (.aload_n 2, 1) := dk_44 (dk_at dksX1_lotOf_0 21 rfl rfl)
theorem dX1_lotOf_22 : decode cX1_lotOf 22 = .ok (.getfield 330, 3) := dk_180 1 74 (dk_at dksX1_lotOf_1 0 rfl rfl)
theorem dX1_lotOf_25 : decode cX1_lotOf 25 = .ok (.getfield 137, 3) := dk_180 0 137 (dk_at dksX1_lotOf_1 3 rfl rfl)
theorem dX1_lotOf_28 : decode cX1_lotOf 28 = .ok (.ireturn, 1) := dk_172 (dk_at dksX1_lotOf_1 6 rfl rfl)
abbrev cX1_requireElement : ByteArray := prog_1_method_6_code
def yX1_requireElement : MethodName := ⟨RX1, "requireElement", "(Z)V"⟩
def dkwX1_requireElement_0 : List UInt8 := [26, 154, 0, 11, 187, 0, 16, 89, 183, 0, 18, 191, 177]
abbrev dktX1_requireElement_0 : List UInt8 := dkwX1_requireElement_0 ++ []
theorem dksX1_requireElement_0 : cX1_requireElement.data.toList.drop 0 = dktX1_requireElement_0 := by decide +kernel
theorem dX1_requireElement_0 : decode cX1_requireElement 0 = .ok (.iload_n 0, 1) := dk_26 (dk_at dksX1_requireElement_0 0 rfl rfl)
theorem dX1_requireElement_1 : decode cX1_requireElement 1 = .ok (.ifCond .ne 11, 3) := dk_154 0 11 (dk_at dksX1_requireElement_0 1 rfl rfl)
theorem dX1_requireElement_4 : decode cX1_requireElement 4 = .ok (.new 16, 3) := dk_187 0 16 (dk_at dksX1_requireElement_0 4 rfl rfl)
theorem dX1_requireElement_7 : decode cX1_requireElement 7 = .ok (.dup, 1) := dk_89 (dk_at dksX1_requireElement_0 7 rfl rfl)
theorem dX1_requireElement_8 : decode cX1_requireElement 8 = .ok (.invokespecial 18, 3) := dk_183 0 18 (dk_at dksX1_requireElement_0 8 rfl rfl)
theorem dX1_requireElement_11 : decode cX1_requireElement 11 = .ok (.athrow, 1) := dk_191 (dk_at dksX1_requireElement_0 11 rfl rfl)
theorem dX1_requireElement_12 : decode cX1_requireElement 12 = .ok (.return_, 1) := dk_177 (dk_at dksX1_requireElement_0 12 rfl rfl)
abbrev cX1_finishedAt : ByteArray := prog_1_method_48_code
def yX1_finishedAt : MethodName := ⟨RX1, "finishedAt", "(I)I"⟩
def dkwX1_finishedAt_2 : List UInt8 := [180, 1, 71, 172]
abbrev dktX1_finishedAt_2 : List UInt8 := dkwX1_finishedAt_2 ++ []
def dkwX1_finishedAt_1 : List UInt8 := [165, 0, 13, 44, 180, 0, 184, 178, 1, 161, 166, 0, 7, 4, 167, 0, 4, 3, 184, 1, 165, 44]
abbrev dktX1_finishedAt_1 : List UInt8 := dkwX1_finishedAt_1 ++ dktX1_finishedAt_2
def dkwX1_finishedAt_0 : List UInt8 := [42, 27, 182, 1, 15, 77, 44, 180, 0, 254, 193, 0, 71, 153, 0, 27, 44, 180, 0, 184, 178, 1, 65]
abbrev dktX1_finishedAt_0 : List UInt8 := dkwX1_finishedAt_0 ++ dktX1_finishedAt_1
theorem dksX1_finishedAt_0 : cX1_finishedAt.data.toList.drop 0 = dktX1_finishedAt_0 := by decide +kernel
theorem dksX1_finishedAt_1 : cX1_finishedAt.data.toList.drop 23 = dktX1_finishedAt_1 := dk_seg dksX1_finishedAt_0 23 rfl rfl
theorem dksX1_finishedAt_2 : cX1_finishedAt.data.toList.drop 45 = dktX1_finishedAt_2 := dk_seg dksX1_finishedAt_1 22 rfl rfl
theorem dX1_finishedAt_0 : decode cX1_finishedAt 0 = .ok (.aload_n 0, 1) := dk_42 (dk_at dksX1_finishedAt_0 0 rfl rfl)
theorem dX1_finishedAt_1 : decode cX1_finishedAt 1 = .ok (.iload_n 1, 1) := dk_27 (dk_at dksX1_finishedAt_0 1 rfl rfl)
theorem dX1_finishedAt_2 : decode cX1_finishedAt 2 = .ok (.invokevirtual 271, 3) := dk_182 1 15 (dk_at dksX1_finishedAt_0 2 rfl rfl)
theorem dX1_finishedAt_5 : decode cX1_finishedAt 5 = .ok (.astore_n 2, 1) := dk_77 (dk_at dksX1_finishedAt_0 5 rfl rfl)
theorem dX1_finishedAt_6 : decode cX1_finishedAt 6 = .ok (.aload_n 2, 1) := dk_44 (dk_at dksX1_finishedAt_0 6 rfl rfl)
theorem dX1_finishedAt_7 : decode cX1_finishedAt 7 = .ok (.getfield 254, 3) := dk_180 0 254 (dk_at dksX1_finishedAt_0 7 rfl rfl)
theorem dX1_finishedAt_10 : decode cX1_finishedAt 10 = .ok (.instanceof 71, 3) := dk_193 0 71 (dk_at dksX1_finishedAt_0 10 rfl rfl)
theorem dX1_finishedAt_13 : decode cX1_finishedAt 13 = .ok (.ifCond .eq 27, 3) := dk_153 0 27 (dk_at dksX1_finishedAt_0 13 rfl rfl)
theorem dX1_finishedAt_16 : decode cX1_finishedAt 16 = .ok (.aload_n 2, 1) := dk_44 (dk_at dksX1_finishedAt_0 16 rfl rfl)
theorem dX1_finishedAt_17 : decode cX1_finishedAt 17 = .ok (.getfield 184, 3) := dk_180 0 184 (dk_at dksX1_finishedAt_0 17 rfl rfl)
theorem dX1_finishedAt_20 : decode cX1_finishedAt 20 = .ok (.getstatic 321, 3) := dk_178 1 65 (dk_at dksX1_finishedAt_0 20 rfl rfl)
theorem dX1_finishedAt_23 : decode cX1_finishedAt 23 = .ok (.if_acmp .eq 13, 3) := dk_165 0 13 (dk_at dksX1_finishedAt_1 0 rfl rfl)
theorem dX1_finishedAt_26 : decode cX1_finishedAt 26 = .ok (.aload_n 2, 1) := dk_44 (dk_at dksX1_finishedAt_1 3 rfl rfl)
theorem dX1_finishedAt_27 : decode cX1_finishedAt 27 = .ok (.getfield 184, 3) := dk_180 0 184 (dk_at dksX1_finishedAt_1 4 rfl rfl)
theorem dX1_finishedAt_30 : decode cX1_finishedAt 30 = .ok (.getstatic 417, 3) := dk_178 1 161 (dk_at dksX1_finishedAt_1 7 rfl rfl)
theorem dX1_finishedAt_33 : decode cX1_finishedAt 33 = .ok (.if_acmp .ne 7, 3) := dk_166 0 7 (dk_at dksX1_finishedAt_1 10 rfl rfl)
theorem dX1_finishedAt_36 : decode cX1_finishedAt 36 = .ok (.iconst 1, 1) := dk_4 (dk_at dksX1_finishedAt_1 13 rfl rfl)
theorem dX1_finishedAt_37 : decode cX1_finishedAt 37 = .ok (.goto 4, 3) := dk_167 0 4 (dk_at dksX1_finishedAt_1 14 rfl rfl)
theorem dX1_finishedAt_40 : decode cX1_finishedAt 40 = .ok (.iconst 0, 1) := dk_3 (dk_at dksX1_finishedAt_1 17 rfl rfl)
theorem dX1_finishedAt_41 : decode cX1_finishedAt 41 = .ok (.invokestatic 421, 3) := dk_184 1 165 (dk_at dksX1_finishedAt_1 18 rfl rfl)
theorem dX1_finishedAt_44 : decode cX1_finishedAt 44 = .ok (.aload_n 2, 1) := dk_44 (dk_at dksX1_finishedAt_1 21 rfl rfl)
theorem dX1_finishedAt_45 : decode cX1_finishedAt 45 = .ok (.getfield 327, 3) := dk_180 1 71 (dk_at dksX1_finishedAt_2 0 rfl rfl)
theorem dX1_finishedAt_48 : decode cX1_finishedAt 48 = .ok (.ireturn, 1) := dk_172 (dk_at dksX1_finishedAt_2 3 rfl rfl)
abbrev cX1_machineIs : ByteArray := prog_1_method_49_code
def yX1_machineIs : MethodName := ⟨RX1, "machineIs", "(I)C"⟩
def dkwX1_machineIs_1 : List UInt8 := [199, 0, 8, 16, 45, 167, 0, 5, 16, 111, 172]
abbrev dktX1_machineIs_1 : List UInt8 := dkwX1_machineIs_1 ++ []
def dkwX1_machineIs_0 : List UInt8 := [42, 27, 182, 0, 103, 77, 44, 180, 1, 78, 153, 0, 8, 16, 98, 167, 0, 17, 44, 180, 1, 81]
abbrev dktX1_machineIs_0 : List UInt8 := dkwX1_machineIs_0 ++ dktX1_machineIs_1
theorem dksX1_machineIs_0 : cX1_machineIs.data.toList.drop 0 = dktX1_machineIs_0 := by decide +kernel
theorem dksX1_machineIs_1 : cX1_machineIs.data.toList.drop 22 = dktX1_machineIs_1 := dk_seg dksX1_machineIs_0 22 rfl rfl
theorem dX1_machineIs_0 : decode cX1_machineIs 0 = .ok (.aload_n 0, 1) := dk_42 (dk_at dksX1_machineIs_0 0 rfl rfl)
theorem dX1_machineIs_1 : decode cX1_machineIs 1 = .ok (.iload_n 1, 1) := dk_27 (dk_at dksX1_machineIs_0 1 rfl rfl)
theorem dX1_machineIs_2 : decode cX1_machineIs 2 = .ok (.invokevirtual 103, 3) := dk_182 0 103 (dk_at dksX1_machineIs_0 2 rfl rfl)
theorem dX1_machineIs_5 : decode cX1_machineIs 5 = .ok (.astore_n 2, 1) := dk_77 (dk_at dksX1_machineIs_0 5 rfl rfl)
theorem dX1_machineIs_6 : decode cX1_machineIs 6 = .ok (.aload_n 2, 1) := dk_44 (dk_at dksX1_machineIs_0 6 rfl rfl)
theorem dX1_machineIs_7 : decode cX1_machineIs 7 = .ok (.getfield 334, 3) := dk_180 1 78 (dk_at dksX1_machineIs_0 7 rfl rfl)
theorem dX1_machineIs_10 : decode cX1_machineIs 10 = .ok (.ifCond .eq 8, 3) := dk_153 0 8 (dk_at dksX1_machineIs_0 10 rfl rfl)
theorem dX1_machineIs_13 : decode cX1_machineIs 13 = .ok (.bipush 98, 2) := dk_16 98 (dk_at dksX1_machineIs_0 13 rfl rfl)
theorem dX1_machineIs_15 : decode cX1_machineIs 15 = .ok (.goto 17, 3) := dk_167 0 17 (dk_at dksX1_machineIs_0 15 rfl rfl)
theorem dX1_machineIs_18 : decode cX1_machineIs 18 = .ok (.aload_n 2, 1) := dk_44 (dk_at dksX1_machineIs_0 18 rfl rfl)
theorem dX1_machineIs_19 : decode cX1_machineIs 19 = .ok (.getfield 337, 3) := dk_180 1 81 (dk_at dksX1_machineIs_0 19 rfl rfl)
theorem dX1_machineIs_22 : decode cX1_machineIs 22 = .ok (.ifnonnull 8, 3) := dk_199 0 8 (dk_at dksX1_machineIs_1 0 rfl rfl)
theorem dX1_machineIs_25 : decode cX1_machineIs 25 = .ok (.bipush 45, 2) := dk_16 45 (dk_at dksX1_machineIs_1 3 rfl rfl)
theorem dX1_machineIs_27 : decode cX1_machineIs 27 = .ok (.goto 5, 3) := dk_167 0 5 (dk_at dksX1_machineIs_1 5 rfl rfl)
theorem dX1_machineIs_30 : decode cX1_machineIs 30 = .ok (.bipush 111, 2) := dk_16 111 (dk_at dksX1_machineIs_1 8 rfl rfl)
theorem dX1_machineIs_32 : decode cX1_machineIs 32 = .ok (.ireturn, 1) := dk_172 (dk_at dksX1_machineIs_1 10 rfl rfl)
abbrev cX1_wear : ByteArray := prog_1_method_50_code
def yX1_wear : MethodName := ⟨RX1, "wear", "(I)I"⟩
def dkwX1_wear_0 : List UInt8 := [42, 27, 182, 0, 103, 180, 1, 91, 172]
abbrev dktX1_wear_0 : List UInt8 := dkwX1_wear_0 ++ []
theorem dksX1_wear_0 : cX1_wear.data.toList.drop 0 = dktX1_wear_0 := by decide +kernel
theorem dX1_wear_0 : decode cX1_wear 0 = .ok (.aload_n 0, 1) := dk_42 (dk_at dksX1_wear_0 0 rfl rfl)
theorem dX1_wear_1 : decode cX1_wear 1 = .ok (.iload_n 1, 1) := dk_27 (dk_at dksX1_wear_0 1 rfl rfl)
theorem dX1_wear_2 : decode cX1_wear 2 = .ok (.invokevirtual 103, 3) := dk_182 0 103 (dk_at dksX1_wear_0 2 rfl rfl)
theorem dX1_wear_5 : decode cX1_wear 5 = .ok (.getfield 347, 3) := dk_180 1 91 (dk_at dksX1_wear_0 5 rfl rfl)
theorem dX1_wear_8 : decode cX1_wear 8 = .ok (.ireturn, 1) := dk_172 (dk_at dksX1_wear_0 8 rfl rfl)
abbrev cX1_waiting : ByteArray := prog_1_method_51_code
def yX1_waiting : MethodName := ⟨RX1, "waiting", "(I)I"⟩
def dkwX1_waiting_0 : List UInt8 := [42, 27, 182, 0, 103, 180, 1, 58, 182, 1, 168, 172]
abbrev dktX1_waiting_0 : List UInt8 := dkwX1_waiting_0 ++ []
theorem dksX1_waiting_0 : cX1_waiting.data.toList.drop 0 = dktX1_waiting_0 := by decide +kernel
theorem dX1_waiting_0 : decode cX1_waiting 0 = .ok (.aload_n 0, 1) := dk_42 (dk_at dksX1_waiting_0 0 rfl rfl)
theorem dX1_waiting_1 : decode cX1_waiting 1 = .ok (.iload_n 1, 1) := dk_27 (dk_at dksX1_waiting_0 1 rfl rfl)
theorem dX1_waiting_2 : decode cX1_waiting 2 = .ok (.invokevirtual 103, 3) := dk_182 0 103 (dk_at dksX1_waiting_0 2 rfl rfl)
theorem dX1_waiting_5 : decode cX1_waiting 5 = .ok (.getfield 314, 3) := dk_180 1 58 (dk_at dksX1_waiting_0 5 rfl rfl)
theorem dX1_waiting_8 : decode cX1_waiting 8 = .ok (.invokevirtual 424, 3) := dk_182 1 168 (dk_at dksX1_waiting_0 8 rfl rfl)
theorem dX1_waiting_11 : decode cX1_waiting 11 = .ok (.ireturn, 1) := dk_172 (dk_at dksX1_waiting_0 11 rfl rfl)
abbrev cX1_isIn_2 : ByteArray := prog_1_method_52_code
def yX1_isIn_2 : MethodName := ⟨RX1, "isIn", "(II)Z"⟩
def dkwX1_isIn_2_0 : List UInt8 := [42, 27, 182, 0, 203, 78, 42, 28, 182, 0, 203, 45, 182, 1, 169, 172]
abbrev dktX1_isIn_2_0 : List UInt8 := dkwX1_isIn_2_0 ++ []
theorem dksX1_isIn_2_0 : cX1_isIn_2.data.toList.drop 0 = dktX1_isIn_2_0 := by decide +kernel
theorem dX1_isIn_2_0 : decode cX1_isIn_2 0 = .ok (.aload_n 0, 1) := dk_42 (dk_at dksX1_isIn_2_0 0 rfl rfl)
theorem dX1_isIn_2_1 : decode cX1_isIn_2 1 = .ok (.iload_n 1, 1) := dk_27 (dk_at dksX1_isIn_2_0 1 rfl rfl)
theorem dX1_isIn_2_2 : decode cX1_isIn_2 2 = .ok (.invokevirtual 203, 3) := dk_182 0 203 (dk_at dksX1_isIn_2_0 2 rfl rfl)
theorem dX1_isIn_2_5 : decode cX1_isIn_2 5 = .ok (.astore_n 3, 1) := dk_78 (dk_at dksX1_isIn_2_0 5 rfl rfl)
theorem dX1_isIn_2_6 : decode cX1_isIn_2 6 = .ok (.aload_n 0, 1) := dk_42 (dk_at dksX1_isIn_2_0 6 rfl rfl)
theorem dX1_isIn_2_7 : decode cX1_isIn_2 7 = .ok (.iload_n 2, 1) := dk_28 (dk_at dksX1_isIn_2_0 7 rfl rfl)
theorem dX1_isIn_2_8 : decode cX1_isIn_2 8 = .ok (.invokevirtual 203, 3) := dk_182 0 203 (dk_at dksX1_isIn_2_0 8 rfl rfl)
theorem dX1_isIn_2_11 : decode cX1_isIn_2 11 = .ok (.aload_n 3, 1) := dk_45 (dk_at dksX1_isIn_2_0 11 rfl rfl)
theorem dX1_isIn_2_12 : decode cX1_isIn_2 12 = .ok (.invokevirtual 425, 3) := dk_182 1 169 (dk_at dksX1_isIn_2_0 12 rfl rfl)
theorem dX1_isIn_2_15 : decode cX1_isIn_2 15 = .ok (.ireturn, 1) := dk_172 (dk_at dksX1_isIn_2_0 15 rfl rfl)
abbrev cX1_lotsIn : ByteArray := prog_1_method_57_code
def yX1_lotsIn : MethodName := ⟨RX1, "lotsIn", "(I)I"⟩
def dkwX1_lotsIn_0 : List UInt8 := [42, 42, 27, 182, 1, 15, 182, 1, 184, 172]
abbrev dktX1_lotsIn_0 : List UInt8 := dkwX1_lotsIn_0 ++ []
theorem dksX1_lotsIn_0 : cX1_lotsIn.data.toList.drop 0 = dktX1_lotsIn_0 := by decide +kernel
theorem dX1_lotsIn_0 : decode cX1_lotsIn 0 = .ok (.aload_n 0, 1) := dk_42 (dk_at dksX1_lotsIn_0 0 rfl rfl)
theorem dX1_lotsIn_1 : decode cX1_lotsIn 1 = .ok (.aload_n 0, 1) := dk_42 (dk_at dksX1_lotsIn_0 1 rfl rfl)
theorem dX1_lotsIn_2 : decode cX1_lotsIn 2 = .ok (.iload_n 1, 1) := dk_27 (dk_at dksX1_lotsIn_0 2 rfl rfl)
theorem dX1_lotsIn_3 : decode cX1_lotsIn 3 = .ok (.invokevirtual 271, 3) := dk_182 1 15 (dk_at dksX1_lotsIn_0 3 rfl rfl)
theorem dX1_lotsIn_6 : decode cX1_lotsIn 6 = .ok (.invokevirtual 440, 3) := dk_182 1 184 (dk_at dksX1_lotsIn_0 6 rfl rfl)
theorem dX1_lotsIn_9 : decode cX1_lotsIn 9 = .ok (.ireturn, 1) := dk_172 (dk_at dksX1_lotsIn_0 9 rfl rfl)
abbrev cX1_deliveredCost : ByteArray := prog_1_method_59_code
def yX1_deliveredCost : MethodName := ⟨RX1, "deliveredCost", "(I)J"⟩
def dkwX1_deliveredCost_1 : List UInt8 := [44, 180, 1, 151, 184, 1, 188, 173]
abbrev dktX1_deliveredCost_1 : List UInt8 := dkwX1_deliveredCost_1 ++ []
def dkwX1_deliveredCost_0 : List UInt8 := [42, 27, 182, 1, 15, 77, 44, 180, 0, 184, 178, 1, 161, 166, 0, 7, 4, 167, 0, 4, 3, 184, 1, 165]
abbrev dktX1_deliveredCost_0 : List UInt8 := dkwX1_deliveredCost_0 ++ dktX1_deliveredCost_1
theorem dksX1_deliveredCost_0 : cX1_deliveredCost.data.toList.drop 0 = dktX1_deliveredCost_0 := by decide +kernel
theorem dksX1_deliveredCost_1 : cX1_deliveredCost.data.toList.drop 24 = dktX1_deliveredCost_1 := dk_seg dksX1_deliveredCost_0 24 rfl rfl
theorem dX1_deliveredCost_0 : decode cX1_deliveredCost 0 = .ok (.aload_n 0, 1) := dk_42 (dk_at dksX1_deliveredCost_0 0 rfl rfl)
theorem dX1_deliveredCost_1 : decode cX1_deliveredCost 1 = .ok (.iload_n 1, 1) := dk_27 (dk_at dksX1_deliveredCost_0 1 rfl rfl)
theorem dX1_deliveredCost_2 : decode cX1_deliveredCost 2 = .ok (.invokevirtual 271, 3) := dk_182 1 15 (dk_at dksX1_deliveredCost_0 2 rfl rfl)
theorem dX1_deliveredCost_5 : decode cX1_deliveredCost 5 = .ok (.astore_n 2, 1) := dk_77 (dk_at dksX1_deliveredCost_0 5 rfl rfl)
theorem dX1_deliveredCost_6 : decode cX1_deliveredCost 6 = .ok (.aload_n 2, 1) := dk_44 (dk_at dksX1_deliveredCost_0 6 rfl rfl)
theorem dX1_deliveredCost_7 : decode cX1_deliveredCost 7 = .ok (.getfield 184, 3) := dk_180 0 184 (dk_at dksX1_deliveredCost_0 7 rfl rfl)
theorem dX1_deliveredCost_10 : decode cX1_deliveredCost 10 = .ok (.getstatic 417, 3) := dk_178 1 161 (dk_at dksX1_deliveredCost_0 10 rfl rfl)
theorem dX1_deliveredCost_13 : decode cX1_deliveredCost 13 = .ok (.if_acmp .ne 7, 3) := dk_166 0 7 (dk_at dksX1_deliveredCost_0 13 rfl rfl)
theorem dX1_deliveredCost_16 : decode cX1_deliveredCost 16 = .ok (.iconst 1, 1) := dk_4 (dk_at dksX1_deliveredCost_0 16 rfl rfl)
theorem dX1_deliveredCost_17 : decode cX1_deliveredCost 17 = .ok (.goto 4, 3) := dk_167 0 4 (dk_at dksX1_deliveredCost_0 17 rfl rfl)
theorem dX1_deliveredCost_20 : decode cX1_deliveredCost 20 = .ok (.iconst 0, 1) := dk_3 (dk_at dksX1_deliveredCost_0 20 rfl rfl)
theorem dX1_deliveredCost_21 : decode cX1_deliveredCost 21 = .ok (.invokestatic 421, 3) := dk_184 1 165 (dk_at dksX1_deliveredCost_0 21 rfl rfl)
theorem dX1_deliveredCost_24 : decode cX1_deliveredCost 24 = .ok (.aload_n 2, 1) := dk_44 (dk_at dksX1_deliveredCost_1 0 rfl rfl)
theorem dX1_deliveredCost_25 : decode cX1_deliveredCost 25 = .ok (.getfield 407, 3) := dk_180 1 151 (dk_at dksX1_deliveredCost_1 1 rfl rfl)
theorem dX1_deliveredCost_28 : decode cX1_deliveredCost 28 = .ok (.invokestatic 444, 3) := dk_184 1 188 (dk_at dksX1_deliveredCost_1 4 rfl rfl)
theorem dX1_deliveredCost_31 : decode cX1_deliveredCost 31 = .ok (.lreturn, 1) := dk_173 (dk_at dksX1_deliveredCost_1 7 rfl rfl)
abbrev cX1_inTimeShare : ByteArray := prog_1_method_60_code
def yX1_inTimeShare : MethodName := ⟨RX1, "inTimeShare", "()F"⟩
def dkwX1_inTimeShare_4 : List UInt8 := [167, 255, 179, 27, 154, 0, 11, 187, 1, 195, 89, 183, 1, 197, 191, 28, 134, 27, 134, 110, 174]
abbrev dktX1_inTimeShare_4 : List UInt8 := dkwX1_inTimeShare_4 ++ []
def dkwX1_inTimeShare_3 : List UInt8 := [153, 0, 20, 25, 4, 180, 1, 158, 25, 4, 180, 1, 192, 163, 0, 7, 4, 167, 0, 4, 3, 96, 61]
abbrev dktX1_inTimeShare_3 : List UInt8 := dkwX1_inTimeShare_3 ++ dktX1_inTimeShare_4
def dkwX1_inTimeShare_2 : List UInt8 := [167, 0, 4, 3, 54, 5, 27, 21, 5, 153, 0, 7, 4, 167, 0, 4, 3, 96, 60, 28, 21, 5]
abbrev dktX1_inTimeShare_2 : List UInt8 := dkwX1_inTimeShare_2 ++ dktX1_inTimeShare_3
def dkwX1_inTimeShare_1 : List UInt8 := [185, 0, 165, 1, 0, 192, 0, 151, 58, 4, 25, 4, 180, 0, 184, 178, 1, 161, 166, 0, 7, 4]
abbrev dktX1_inTimeShare_1 : List UInt8 := dkwX1_inTimeShare_1 ++ dktX1_inTimeShare_2
def dkwX1_inTimeShare_0 : List UInt8 := [3, 60, 3, 61, 42, 180, 0, 37, 182, 0, 155, 78, 45, 185, 0, 159, 1, 0, 153, 0, 74, 45]
abbrev dktX1_inTimeShare_0 : List UInt8 := dkwX1_inTimeShare_0 ++ dktX1_inTimeShare_1
theorem dksX1_inTimeShare_0 : cX1_inTimeShare.data.toList.drop 0 = dktX1_inTimeShare_0 := by decide +kernel
theorem dksX1_inTimeShare_1 : cX1_inTimeShare.data.toList.drop 22 = dktX1_inTimeShare_1 := dk_seg dksX1_inTimeShare_0 22 rfl rfl
theorem dksX1_inTimeShare_2 : cX1_inTimeShare.data.toList.drop 44 = dktX1_inTimeShare_2 := dk_seg dksX1_inTimeShare_1 22 rfl rfl
theorem dksX1_inTimeShare_3 : cX1_inTimeShare.data.toList.drop 66 = dktX1_inTimeShare_3 := dk_seg dksX1_inTimeShare_2 22 rfl rfl
theorem dksX1_inTimeShare_4 : cX1_inTimeShare.data.toList.drop 89 = dktX1_inTimeShare_4 := dk_seg dksX1_inTimeShare_3 23 rfl rfl
theorem dX1_inTimeShare_0 : decode cX1_inTimeShare 0 = .ok (.iconst 0, 1) := dk_3 (dk_at dksX1_inTimeShare_0 0 rfl rfl)
theorem dX1_inTimeShare_1 : decode cX1_inTimeShare 1 = .ok (.istore_n 1, 1) := dk_60 (dk_at dksX1_inTimeShare_0 1 rfl rfl)
theorem dX1_inTimeShare_2 : decode cX1_inTimeShare 2 = .ok (.iconst 0, 1) := dk_3 (dk_at dksX1_inTimeShare_0 2 rfl rfl)
theorem dX1_inTimeShare_3 : decode cX1_inTimeShare 3 = .ok (.istore_n 2, 1) := dk_61 (dk_at dksX1_inTimeShare_0 3 rfl rfl)
theorem dX1_inTimeShare_4 : decode cX1_inTimeShare 4 = .ok (.aload_n 0, 1) := dk_42 (dk_at dksX1_inTimeShare_0 4 rfl rfl)
theorem dX1_inTimeShare_5 : decode cX1_inTimeShare 5 = .ok (.getfield 37, 3) := dk_180 0 37 (dk_at dksX1_inTimeShare_0 5 rfl rfl)
theorem dX1_inTimeShare_8 : decode cX1_inTimeShare 8 = .ok (.invokevirtual 155, 3) := dk_182 0 155 (dk_at dksX1_inTimeShare_0 8 rfl rfl)
theorem dX1_inTimeShare_11 : decode cX1_inTimeShare 11 = .ok (.astore_n 3, 1) := dk_78 (dk_at dksX1_inTimeShare_0 11 rfl rfl)
theorem dX1_inTimeShare_12 : decode cX1_inTimeShare 12 = .ok (.aload_n 3, 1) := dk_45 (dk_at dksX1_inTimeShare_0 12 rfl rfl)
theorem dX1_inTimeShare_13 : decode cX1_inTimeShare 13 = .ok (.invokeinterface 159 1, 5) := by decide +kernel
theorem dX1_inTimeShare_18 : decode cX1_inTimeShare 18 = .ok (.ifCond .eq 74, 3) := dk_153 0 74 (dk_at dksX1_inTimeShare_0 18 rfl rfl)
theorem dX1_inTimeShare_21 : decode cX1_inTimeShare 21 = .ok (.aload_n 3, 1) := dk_45 (dk_at dksX1_inTimeShare_0 21 rfl rfl)
theorem dX1_inTimeShare_22 : decode cX1_inTimeShare 22 = .ok (.invokeinterface 165 1, 5) := by decide +kernel
theorem dX1_inTimeShare_27 : decode cX1_inTimeShare 27 = .ok (.checkcast 151, 3) := dk_192 0 151 (dk_at dksX1_inTimeShare_1 5 rfl rfl)
theorem dX1_inTimeShare_30 : decode cX1_inTimeShare 30 = .ok (.astore 4, 2) := dk_58 4 (dk_at dksX1_inTimeShare_1 8 rfl rfl)
theorem dX1_inTimeShare_32 : decode cX1_inTimeShare 32 = .ok (.aload 4, 2) := dk_25 4 (dk_at dksX1_inTimeShare_1 10 rfl rfl)
theorem dX1_inTimeShare_34 : decode cX1_inTimeShare 34 = .ok (.getfield 184, 3) := dk_180 0 184 (dk_at dksX1_inTimeShare_1 12 rfl rfl)
theorem dX1_inTimeShare_37 : decode cX1_inTimeShare 37 = .ok (.getstatic 417, 3) := dk_178 1 161 (dk_at dksX1_inTimeShare_1 15 rfl rfl)
theorem dX1_inTimeShare_40 : decode cX1_inTimeShare 40 = .ok (.if_acmp .ne 7, 3) := dk_166 0 7 (dk_at dksX1_inTimeShare_1 18 rfl rfl)
theorem dX1_inTimeShare_43 : decode cX1_inTimeShare 43 = .ok (.iconst 1, 1) := dk_4 (dk_at dksX1_inTimeShare_1 21 rfl rfl)
theorem dX1_inTimeShare_44 : decode cX1_inTimeShare 44 = .ok (.goto 4, 3) := dk_167 0 4 (dk_at dksX1_inTimeShare_2 0 rfl rfl)
theorem dX1_inTimeShare_47 : decode cX1_inTimeShare 47 = .ok (.iconst 0, 1) := dk_3 (dk_at dksX1_inTimeShare_2 3 rfl rfl)
theorem dX1_inTimeShare_48 : decode cX1_inTimeShare 48 = .ok (.istore 5, 2) := dk_54 5 (dk_at dksX1_inTimeShare_2 4 rfl rfl)
theorem dX1_inTimeShare_50 : decode cX1_inTimeShare 50 = .ok (.iload_n 1, 1) := dk_27 (dk_at dksX1_inTimeShare_2 6 rfl rfl)
theorem dX1_inTimeShare_51 : decode cX1_inTimeShare 51 = .ok (.iload 5, 2) := dk_21 5 (dk_at dksX1_inTimeShare_2 7 rfl rfl)
theorem dX1_inTimeShare_53 : decode cX1_inTimeShare 53 = .ok (.ifCond .eq 7, 3) := dk_153 0 7 (dk_at dksX1_inTimeShare_2 9 rfl rfl)
theorem dX1_inTimeShare_56 : decode cX1_inTimeShare 56 = .ok (.iconst 1, 1) := dk_4 (dk_at dksX1_inTimeShare_2 12 rfl rfl)
theorem dX1_inTimeShare_57 : decode cX1_inTimeShare 57 = .ok (.goto 4, 3) := dk_167 0 4 (dk_at dksX1_inTimeShare_2 13 rfl rfl)
theorem dX1_inTimeShare_60 : decode cX1_inTimeShare 60 = .ok (.iconst 0, 1) := dk_3 (dk_at dksX1_inTimeShare_2 16 rfl rfl)
theorem dX1_inTimeShare_61 : decode cX1_inTimeShare 61 = .ok (.iadd, 1) := dk_96 (dk_at dksX1_inTimeShare_2 17 rfl rfl)
theorem dX1_inTimeShare_62 : decode cX1_inTimeShare 62 = .ok (.istore_n 1, 1) := dk_60 (dk_at dksX1_inTimeShare_2 18 rfl rfl)
theorem dX1_inTimeShare_63 : decode cX1_inTimeShare 63 = .ok (.iload_n 2, 1) := dk_28 (dk_at dksX1_inTimeShare_2 19 rfl rfl)
theorem dX1_inTimeShare_64 : decode cX1_inTimeShare 64 = .ok (.iload 5, 2) := dk_21 5 (dk_at dksX1_inTimeShare_2 20 rfl rfl)
theorem dX1_inTimeShare_66 : decode cX1_inTimeShare 66 = .ok (.ifCond .eq 20, 3) := dk_153 0 20 (dk_at dksX1_inTimeShare_3 0 rfl rfl)
theorem dX1_inTimeShare_69 : decode cX1_inTimeShare 69 = .ok (.aload 4, 2) := dk_25 4 (dk_at dksX1_inTimeShare_3 3 rfl rfl)
theorem dX1_inTimeShare_71 : decode cX1_inTimeShare 71 = .ok (.getfield 414, 3) := dk_180 1 158 (dk_at dksX1_inTimeShare_3 5 rfl rfl)
theorem dX1_inTimeShare_74 : decode cX1_inTimeShare 74 = .ok (.aload 4, 2) := dk_25 4 (dk_at dksX1_inTimeShare_3 8 rfl rfl)
theorem dX1_inTimeShare_76 : decode cX1_inTimeShare 76 = .ok (.getfield 448, 3) := dk_180 1 192 (dk_at dksX1_inTimeShare_3 10 rfl rfl)
theorem dX1_inTimeShare_79 : decode cX1_inTimeShare 79 = .ok (.if_icmp .gt 7, 3) := dk_163 0 7 (dk_at dksX1_inTimeShare_3 13 rfl rfl)
theorem dX1_inTimeShare_82 : decode cX1_inTimeShare 82 = .ok (.iconst 1, 1) := dk_4 (dk_at dksX1_inTimeShare_3 16 rfl rfl)
theorem dX1_inTimeShare_83 : decode cX1_inTimeShare 83 = .ok (.goto 4, 3) := dk_167 0 4 (dk_at dksX1_inTimeShare_3 17 rfl rfl)
theorem dX1_inTimeShare_86 : decode cX1_inTimeShare 86 = .ok (.iconst 0, 1) := dk_3 (dk_at dksX1_inTimeShare_3 20 rfl rfl)
theorem dX1_inTimeShare_87 : decode cX1_inTimeShare 87 = .ok (.iadd, 1) := dk_96 (dk_at dksX1_inTimeShare_3 21 rfl rfl)
theorem dX1_inTimeShare_88 : decode cX1_inTimeShare 88 = .ok (.istore_n 2, 1) := dk_61 (dk_at dksX1_inTimeShare_3 22 rfl rfl)
theorem dX1_inTimeShare_89 : decode cX1_inTimeShare 89 = .ok (.goto (-77), 3) := dk_167 255 179 (dk_at dksX1_inTimeShare_4 0 rfl rfl)
theorem dX1_inTimeShare_92 : decode cX1_inTimeShare 92 = .ok (.iload_n 1, 1) := dk_27 (dk_at dksX1_inTimeShare_4 3 rfl rfl)
theorem dX1_inTimeShare_93 : decode cX1_inTimeShare 93 = .ok (.ifCond .ne 11, 3) := dk_154 0 11 (dk_at dksX1_inTimeShare_4 4 rfl rfl)
theorem dX1_inTimeShare_96 : decode cX1_inTimeShare 96 = .ok (.new 451, 3) := dk_187 1 195 (dk_at dksX1_inTimeShare_4 7 rfl rfl)
theorem dX1_inTimeShare_99 : decode cX1_inTimeShare 99 = .ok (.dup, 1) := dk_89 (dk_at dksX1_inTimeShare_4 10 rfl rfl)
theorem dX1_inTimeShare_100 : decode cX1_inTimeShare 100 = .ok (.invokespecial 453, 3) := dk_183 1 197 (dk_at dksX1_inTimeShare_4 11 rfl rfl)
theorem dX1_inTimeShare_103 : decode cX1_inTimeShare 103 = .ok (.athrow, 1) := dk_191 (dk_at dksX1_inTimeShare_4 14 rfl rfl)
theorem dX1_inTimeShare_104 : decode cX1_inTimeShare 104 = .ok (.iload_n 2, 1) := dk_28 (dk_at dksX1_inTimeShare_4 15 rfl rfl)
theorem dX1_inTimeShare_105 : decode cX1_inTimeShare 105 = .ok (.i2f, 1) := dk_134 (dk_at dksX1_inTimeShare_4 16 rfl rfl)
theorem dX1_inTimeShare_106 : decode cX1_inTimeShare 106 = .ok (.iload_n 1, 1) := dk_27 (dk_at dksX1_inTimeShare_4 17 rfl rfl)
theorem dX1_inTimeShare_107 : decode cX1_inTimeShare 107 = .ok (.i2f, 1) := dk_134 (dk_at dksX1_inTimeShare_4 18 rfl rfl)
theorem dX1_inTimeShare_108 : decode cX1_inTimeShare 108 = .ok (.fdiv, 1) := dk_110 (dk_at dksX1_inTimeShare_4 19 rfl rfl)
theorem dX1_inTimeShare_109 : decode cX1_inTimeShare 109 = .ok (.freturn, 1) := dk_174 (dk_at dksX1_inTimeShare_4 20 rfl rfl)
abbrev cX1_meanBusy : ByteArray := prog_1_method_61_code
def yX1_meanBusy : MethodName := ⟨RX1, "meanBusy", "()D"⟩
def dkwX1_meanBusy_3 : List UInt8 := [180, 1, 88, 100, 133, 97, 97, 64, 167, 255, 204, 31, 138, 42, 180, 0, 25, 182, 0, 55, 135, 111, 175]
abbrev dktX1_meanBusy_3 : List UInt8 := dkwX1_meanBusy_3 ++ []
def dkwX1_meanBusy_2 : List UInt8 := [31, 25, 4, 180, 1, 85, 25, 4, 180, 1, 81, 199, 0, 7, 3, 167, 0, 13, 42, 180, 1, 68, 25, 4]
abbrev dktX1_meanBusy_2 : List UInt8 := dkwX1_meanBusy_2 ++ dktX1_meanBusy_3
def dkwX1_meanBusy_1 : List UInt8 := [182, 0, 155, 78, 45, 185, 0, 159, 1, 0, 153, 0, 49, 45, 185, 0, 165, 1, 0, 192, 0, 62, 58, 4]
abbrev dktX1_meanBusy_1 : List UInt8 := dkwX1_meanBusy_1 ++ dktX1_meanBusy_2
def dkwX1_meanBusy_0 : List UInt8 := [42, 180, 0, 25, 182, 1, 198, 153, 0, 11, 187, 1, 195, 89, 183, 1, 197, 191, 9, 64, 42, 180, 0, 25]
abbrev dktX1_meanBusy_0 : List UInt8 := dkwX1_meanBusy_0 ++ dktX1_meanBusy_1
theorem dksX1_meanBusy_0 : cX1_meanBusy.data.toList.drop 0 = dktX1_meanBusy_0 := by decide +kernel
theorem dksX1_meanBusy_1 : cX1_meanBusy.data.toList.drop 24 = dktX1_meanBusy_1 := dk_seg dksX1_meanBusy_0 24 rfl rfl
theorem dksX1_meanBusy_2 : cX1_meanBusy.data.toList.drop 48 = dktX1_meanBusy_2 := dk_seg dksX1_meanBusy_1 24 rfl rfl
theorem dksX1_meanBusy_3 : cX1_meanBusy.data.toList.drop 72 = dktX1_meanBusy_3 := dk_seg dksX1_meanBusy_2 24 rfl rfl
theorem dX1_meanBusy_0 : decode cX1_meanBusy 0 = .ok (.aload_n 0, 1) := dk_42 (dk_at dksX1_meanBusy_0 0 rfl rfl)
theorem dX1_meanBusy_1 : decode cX1_meanBusy 1 = .ok (.getfield 25, 3) := dk_180 0 25 (dk_at dksX1_meanBusy_0 1 rfl rfl)
theorem dX1_meanBusy_4 : decode cX1_meanBusy 4 = .ok (.invokevirtual 454, 3) := dk_182 1 198 (dk_at dksX1_meanBusy_0 4 rfl rfl)
theorem dX1_meanBusy_7 : decode cX1_meanBusy 7 = .ok (.ifCond .eq 11, 3) := dk_153 0 11 (dk_at dksX1_meanBusy_0 7 rfl rfl)
theorem dX1_meanBusy_10 : decode cX1_meanBusy 10 = .ok (.new 451, 3) := dk_187 1 195 (dk_at dksX1_meanBusy_0 10 rfl rfl)
theorem dX1_meanBusy_13 : decode cX1_meanBusy 13 = .ok (.dup, 1) := dk_89 (dk_at dksX1_meanBusy_0 13 rfl rfl)
theorem dX1_meanBusy_14 : decode cX1_meanBusy 14 = .ok (.invokespecial 453, 3) := dk_183 1 197 (dk_at dksX1_meanBusy_0 14 rfl rfl)
theorem dX1_meanBusy_17 : decode cX1_meanBusy 17 = .ok (.athrow, 1) := dk_191 (dk_at dksX1_meanBusy_0 17 rfl rfl)
theorem dX1_meanBusy_18 : decode cX1_meanBusy 18 = .ok (.lconst 0, 1) := dk_9 (dk_at dksX1_meanBusy_0 18 rfl rfl)
theorem dX1_meanBusy_19 : decode cX1_meanBusy 19 = .ok (.lstore_n 1, 1) := dk_64 (dk_at dksX1_meanBusy_0 19 rfl rfl)
theorem dX1_meanBusy_20 : decode cX1_meanBusy 20 = .ok (.aload_n 0, 1) := dk_42 (dk_at dksX1_meanBusy_0 20 rfl rfl)
theorem dX1_meanBusy_21 : decode cX1_meanBusy 21 = .ok (.getfield 25, 3) := dk_180 0 25 (dk_at dksX1_meanBusy_0 21 rfl rfl)
theorem dX1_meanBusy_24 : decode cX1_meanBusy 24 = .ok (.invokevirtual 155, 3) := dk_182 0 155 (dk_at dksX1_meanBusy_1 0 rfl rfl)
theorem dX1_meanBusy_27 : decode cX1_meanBusy 27 = .ok (.astore_n 3, 1) := dk_78 (dk_at dksX1_meanBusy_1 3 rfl rfl)
theorem dX1_meanBusy_28 : decode cX1_meanBusy 28 = .ok (.aload_n 3, 1) := dk_45 (dk_at dksX1_meanBusy_1 4 rfl rfl)
theorem dX1_meanBusy_29 : decode cX1_meanBusy 29 = .ok (.invokeinterface 159 1, 5) := by decide +kernel
theorem dX1_meanBusy_34 : decode cX1_meanBusy 34 = .ok (.ifCond .eq 49, 3) := dk_153 0 49 (dk_at dksX1_meanBusy_1 10 rfl rfl)
theorem dX1_meanBusy_37 : decode cX1_meanBusy 37 = .ok (.aload_n 3, 1) := dk_45 (dk_at dksX1_meanBusy_1 13 rfl rfl)
theorem dX1_meanBusy_38 : decode cX1_meanBusy 38 = .ok (.invokeinterface 165 1, 5) := by decide +kernel
theorem dX1_meanBusy_43 : decode cX1_meanBusy 43 = .ok (.checkcast 62, 3) := dk_192 0 62 (dk_at dksX1_meanBusy_1 19 rfl rfl)
theorem dX1_meanBusy_46 : decode cX1_meanBusy 46 = .ok (.astore 4, 2) := dk_58 4 (dk_at dksX1_meanBusy_1 22 rfl rfl)
theorem dX1_meanBusy_48 : decode cX1_meanBusy 48 = .ok (.lload_n 1, 1) := dk_31 (dk_at dksX1_meanBusy_2 0 rfl rfl)
theorem dX1_meanBusy_49 : decode cX1_meanBusy 49 = .ok (.aload 4, 2) := dk_25 4 (dk_at dksX1_meanBusy_2 1 rfl rfl)
theorem dX1_meanBusy_51 : decode cX1_meanBusy 51 = .ok (.getfield 341, 3) := dk_180 1 85 (dk_at dksX1_meanBusy_2 3 rfl rfl)
theorem dX1_meanBusy_54 : decode cX1_meanBusy 54 = .ok (.aload 4, 2) := dk_25 4 (dk_at dksX1_meanBusy_2 6 rfl rfl)
theorem dX1_meanBusy_56 : decode cX1_meanBusy 56 = .ok (.getfield 337, 3) := dk_180 1 81 (dk_at dksX1_meanBusy_2 8 rfl rfl)
theorem dX1_meanBusy_59 : decode cX1_meanBusy 59 = .ok (.ifnonnull 7, 3) := dk_199 0 7 (dk_at dksX1_meanBusy_2 11 rfl rfl)
theorem dX1_meanBusy_62 : decode cX1_meanBusy 62 = .ok (.iconst 0, 1) := dk_3 (dk_at dksX1_meanBusy_2 14 rfl rfl)
theorem dX1_meanBusy_63 : decode cX1_meanBusy 63 = .ok (.goto 13, 3) := dk_167 0 13 (dk_at dksX1_meanBusy_2 15 rfl rfl)
theorem dX1_meanBusy_66 : decode cX1_meanBusy 66 = .ok (.aload_n 0, 1) := dk_42 (dk_at dksX1_meanBusy_2 18 rfl rfl)
theorem dX1_meanBusy_67 : decode cX1_meanBusy 67 = .ok (.getfield 324, 3) := dk_180 1 68 (dk_at dksX1_meanBusy_2 19 rfl rfl)
theorem dX1_meanBusy_70 : decode cX1_meanBusy 70 = .ok (.aload 4, 2) := dk_25 4 (dk_at dksX1_meanBusy_2 22 rfl rfl)
theorem dX1_meanBusy_72 : decode cX1_meanBusy 72 = .ok (.getfield 344, 3) := dk_180 1 88 (dk_at dksX1_meanBusy_3 0 rfl rfl)
theorem dX1_meanBusy_75 : decode cX1_meanBusy 75 = .ok (.isub, 1) := dk_100 (dk_at dksX1_meanBusy_3 3 rfl rfl)
theorem dX1_meanBusy_76 : decode cX1_meanBusy 76 = .ok (.i2l, 1) := dk_133 (dk_at dksX1_meanBusy_3 4 rfl rfl)
theorem dX1_meanBusy_77 : decode cX1_meanBusy 77 = .ok (.ladd, 1) := dk_97 (dk_at dksX1_meanBusy_3 5 rfl rfl)
theorem dX1_meanBusy_78 : decode cX1_meanBusy 78 = .ok (.ladd, 1) := dk_97 (dk_at dksX1_meanBusy_3 6 rfl rfl)
theorem dX1_meanBusy_79 : decode cX1_meanBusy 79 = .ok (.lstore_n 1, 1) := dk_64 (dk_at dksX1_meanBusy_3 7 rfl rfl)
theorem dX1_meanBusy_80 : decode cX1_meanBusy 80 = .ok (.goto (-52), 3) := dk_167 255 204 (dk_at dksX1_meanBusy_3 8 rfl rfl)
theorem dX1_meanBusy_83 : decode cX1_meanBusy 83 = .ok (.lload_n 1, 1) := dk_31 (dk_at dksX1_meanBusy_3 11 rfl rfl)
theorem dX1_meanBusy_84 : decode cX1_meanBusy 84 = .ok (.l2d, 1) := dk_138 (dk_at dksX1_meanBusy_3 12 rfl rfl)
theorem dX1_meanBusy_85 : decode cX1_meanBusy 85 = .ok (.aload_n 0, 1) := dk_42 (dk_at dksX1_meanBusy_3 13 rfl rfl)
theorem dX1_meanBusy_86 : decode cX1_meanBusy 86 = .ok (.getfield 25, 3) := dk_180 0 25 (dk_at dksX1_meanBusy_3 14 rfl rfl)
theorem dX1_meanBusy_89 : decode cX1_meanBusy 89 = .ok (.invokevirtual 55, 3) := dk_182 0 55 (dk_at dksX1_meanBusy_3 17 rfl rfl)
theorem dX1_meanBusy_92 : decode cX1_meanBusy 92 = .ok (.i2d, 1) := dk_135 (dk_at dksX1_meanBusy_3 20 rfl rfl)
theorem dX1_meanBusy_93 : decode cX1_meanBusy 93 = .ok (.ddiv, 1) := dk_111 (dk_at dksX1_meanBusy_3 21 rfl rfl)
theorem dX1_meanBusy_94 : decode cX1_meanBusy 94 = .ok (.dreturn, 1) := dk_175 (dk_at dksX1_meanBusy_3 22 rfl rfl)
theorem q40 : (Jvm.Cond.initialized "Foundrymark") ∈ lw_all := lw_g (lw_at lw_m1 1 rfl) rfl
theorem q91 : (Jvm.Cond.instantiable "Foundrymark" (10 : Nat)) ∈ lw_all := lw_g (lw_at lw_m1 52 rfl) rfl
theorem q93 : (Jvm.Cond.instanceMethod ({ cls := "Foundrymark", name := "<init>", desc := "()V" } : Jvm.MethodName)) ∈ lw_all := lw_g (lw_at lw_m1 54 rfl) rfl
theorem q94 : (Jvm.Cond.code ({ cls := "Foundrymark", name := "<init>", desc := "()V" } : Jvm.MethodName) prog_1_method_7_code (2 : Nat) (Option.none : Option Jvm.ClassFile.FieldType)) ∈ lw_all := lw_g (lw_at lw_m1 55 rfl) rfl
theorem q95 : (Jvm.Cond.methodLink "Foundrymark" (19 : Nat) ({ cls := "java/lang/Object", name := "<init>", desc := "()V" } : Jvm.MethodName)) ∈ lw_all := lw_g (lw_at lw_m1 56 rfl) rfl
theorem q98 : (Jvm.Cond.classLink "Foundrymark" (22 : Nat) "java/util/ArrayList") ∈ lw_all := lw_g (lw_at lw_m1 59 rfl) rfl
theorem q100 : (Jvm.Cond.methodLink "Foundrymark" (24 : Nat) ({ cls := "java/util/ArrayList", name := "<init>", desc := "()V" } : Jvm.MethodName)) ∈ lw_all := lw_g (lw_at lw_m1 61 rfl) rfl
theorem q127 : (Jvm.Cond.classLink "Foundrymark" (40 : Nat) "Foundrymark$Supplier") ∈ lw_all := lw_g (lw_at lw_m1 88 rfl) rfl
theorem q130 : (Jvm.Cond.methodLinkNest "Foundrymark" (46 : Nat) ({ cls := "Foundrymark$Supplier", name := "<init>", desc := "()V" } : Jvm.MethodName) "Foundrymark") ∈ lw_tbl := lw_at lw_m1 91 rfl
theorem q139 : (Jvm.Cond.fieldLinkNest "Foundrymark" (140 : Nat) "Foundrymark$Supplier" "rule" "LFoundrymark$Rule;" "Foundrymark") ∈ lw_tbl := lw_at lw_m1 100 rfl
theorem q146 : (Jvm.Cond.fieldLink "Foundrymark" (25 : Nat) "Foundrymark" "machines" "Ljava/util/ArrayList;") ∈ lw_all := lw_g (lw_at lw_m1 107 rfl) rfl
theorem q147 : (Jvm.Cond.fieldLink "Foundrymark" (31 : Nat) "Foundrymark" "parts" "Ljava/util/ArrayList;") ∈ lw_all := lw_g (lw_at lw_m1 108 rfl) rfl
theorem q148 : (Jvm.Cond.fieldLink "Foundrymark" (34 : Nat) "Foundrymark" "lots" "Ljava/util/ArrayList;") ∈ lw_all := lw_g (lw_at lw_m1 109 rfl) rfl
theorem q149 : (Jvm.Cond.fieldLink "Foundrymark" (37 : Nat) "Foundrymark" "orders" "Ljava/util/ArrayList;") ∈ lw_all := lw_g (lw_at lw_m1 110 rfl) rfl
theorem q150 : (Jvm.Cond.fieldLink "Foundrymark" (42 : Nat) "Foundrymark" "suppliers" "[LFoundrymark$Supplier;") ∈ lw_all := lw_g (lw_at lw_m1 111 rfl) rfl
theorem q151 : (Jvm.Cond.fieldLink "Foundrymark" (118 : Nat) "Foundrymark" "bought" "I") ∈ lw_all := lw_g (lw_at lw_m1 112 rfl) rfl
theorem q152 : (Jvm.Cond.fieldLink "Foundrymark" (324 : Nat) "Foundrymark" "now" "I") ∈ lw_all := lw_g (lw_at lw_m1 113 rfl) rfl
theorem q153 : (Jvm.Cond.fieldLink "Foundrymark" (122 : Nat) "Foundrymark" "received" "J") ∈ lw_all := lw_g (lw_at lw_m1 114 rfl) rfl
theorem q154 : (Jvm.Cond.fieldLink "Foundrymark" (381 : Nat) "Foundrymark" "worked" "J") ∈ lw_all := lw_g (lw_at lw_m1 115 rfl) rfl
theorem q155 : (Jvm.Cond.fieldLink "Foundrymark" (331 : Nat) "Foundrymark" "lost" "J") ∈ lw_all := lw_g (lw_at lw_m1 116 rfl) rfl
theorem q156 : (Jvm.Cond.laysFinal "Foundrymark" "Foundrymark" "machines" "Ljava/util/ArrayList;") ∈ lw_all := lw_g (lw_at lw_m1 117 rfl) rfl
theorem q157 : (Jvm.Cond.soleField "Foundrymark" "machines") ∈ lw_all := lw_g (lw_at lw_m1 118 rfl) rfl
theorem q158 : (Jvm.Cond.laysFinal "Foundrymark" "Foundrymark" "parts" "Ljava/util/ArrayList;") ∈ lw_all := lw_g (lw_at lw_m1 119 rfl) rfl
theorem q159 : (Jvm.Cond.soleField "Foundrymark" "parts") ∈ lw_all := lw_g (lw_at lw_m1 120 rfl) rfl
theorem q160 : (Jvm.Cond.laysFinal "Foundrymark" "Foundrymark" "lots" "Ljava/util/ArrayList;") ∈ lw_all := lw_g (lw_at lw_m1 121 rfl) rfl
theorem q161 : (Jvm.Cond.soleField "Foundrymark" "lots") ∈ lw_all := lw_g (lw_at lw_m1 122 rfl) rfl
theorem q162 : (Jvm.Cond.laysFinal "Foundrymark" "Foundrymark" "orders" "Ljava/util/ArrayList;") ∈ lw_all := lw_g (lw_at lw_m1 123 rfl) rfl
theorem q163 : (Jvm.Cond.soleField "Foundrymark" "orders") ∈ lw_all := lw_g (lw_at lw_m1 124 rfl) rfl
theorem q164 : (Jvm.Cond.laysFinal "Foundrymark" "Foundrymark" "suppliers" "[LFoundrymark$Supplier;") ∈ lw_all := lw_g (lw_at lw_m1 125 rfl) rfl
theorem q165 : (Jvm.Cond.soleField "Foundrymark" "suppliers") ∈ lw_all := lw_g (lw_at lw_m1 126 rfl) rfl
theorem q166 : (Jvm.Cond.lays "Foundrymark" "Foundrymark" "bought" "I") ∈ lw_all := lw_g (lw_at lw_m1 127 rfl) rfl
theorem q167 : (Jvm.Cond.soleField "Foundrymark" "bought") ∈ lw_all := lw_g (lw_at lw_m1 128 rfl) rfl
theorem q168 : (Jvm.Cond.lays "Foundrymark" "Foundrymark" "now" "I") ∈ lw_all := lw_g (lw_at lw_m1 129 rfl) rfl
theorem q169 : (Jvm.Cond.soleField "Foundrymark" "now") ∈ lw_all := lw_g (lw_at lw_m1 130 rfl) rfl
theorem q170 : (Jvm.Cond.lays "Foundrymark" "Foundrymark" "received" "J") ∈ lw_all := lw_g (lw_at lw_m1 131 rfl) rfl
theorem q171 : (Jvm.Cond.soleField "Foundrymark" "received") ∈ lw_all := lw_g (lw_at lw_m1 132 rfl) rfl
theorem q172 : (Jvm.Cond.lays "Foundrymark" "Foundrymark" "worked" "J") ∈ lw_all := lw_g (lw_at lw_m1 133 rfl) rfl
theorem q173 : (Jvm.Cond.soleField "Foundrymark" "worked") ∈ lw_all := lw_g (lw_at lw_m1 134 rfl) rfl
theorem q174 : (Jvm.Cond.lays "Foundrymark" "Foundrymark" "lost" "J") ∈ lw_all := lw_g (lw_at lw_m1 135 rfl) rfl
theorem q175 : (Jvm.Cond.soleField "Foundrymark" "lost") ∈ lw_all := lw_g (lw_at lw_m1 136 rfl) rfl
theorem q176 : (Jvm.Cond.superclass "Foundrymark" "java/lang/Object") ∈ lw_all := lw_g (lw_at lw_m1 137 rfl) rfl
theorem q178 : (Jvm.Cond.instanceMethod ({ cls := "Foundrymark", name := "lots", desc := "()I" } : Jvm.MethodName)) ∈ lw_all := lw_g (lw_at lw_m1 139 rfl) rfl
theorem q179 : (Jvm.Cond.selects "Foundrymark" ({ cls := "Foundrymark", name := "lots", desc := "()I" } : Jvm.MethodName) ({ cls := "Foundrymark", name := "lots", desc := "()I" } : Jvm.MethodName)) ∈ lw_all := lw_g (lw_at lw_m1 140 rfl) rfl
theorem q180 : (Jvm.Cond.code ({ cls := "Foundrymark", name := "lots", desc := "()I" } : Jvm.MethodName) prog_1_method_24_code (1 : Nat) (Option.some Jvm.ClassFile.FieldType.int)) ∈ lw_all := lw_g (lw_at lw_m1 141 rfl) rfl
theorem q181 : (Jvm.Cond.methodLink "Foundrymark" (55 : Nat) ({ cls := "java/util/ArrayList", name := "size", desc := "()I" } : Jvm.MethodName)) ∈ lw_all := lw_g (lw_at lw_m1 142 rfl) rfl
theorem q186 : (Jvm.Cond.instanceMethod ({ cls := "Foundrymark", name := "isSound", desc := "()Z" } : Jvm.MethodName)) ∈ lw_all := lw_g (lw_at lw_m1 147 rfl) rfl
theorem q187 : (Jvm.Cond.selects "Foundrymark" ({ cls := "Foundrymark", name := "isSound", desc := "()Z" } : Jvm.MethodName) ({ cls := "Foundrymark", name := "isSound", desc := "()Z" } : Jvm.MethodName)) ∈ lw_all := lw_g (lw_at lw_m1 148 rfl) rfl
theorem q188 : (Jvm.Cond.code ({ cls := "Foundrymark", name := "isSound", desc := "()Z" } : Jvm.MethodName) prog_1_method_64_code (4 : Nat) (Option.some Jvm.ClassFile.FieldType.boolean)) ∈ lw_all := lw_g (lw_at lw_m1 149 rfl) rfl
theorem q189 : (Jvm.Cond.methodLink "Foundrymark" (155 : Nat) ({ cls := "java/util/ArrayList", name := "iterator", desc := "()Ljava/util/Iterator;" } : Jvm.MethodName)) ∈ lw_all := lw_g (lw_at lw_m1 150 rfl) rfl
theorem q212 : (Jvm.Cond.interfaceEntry "Foundrymark" (159 : Nat)) ∈ lw_tbl := lw_at lw_m1 173 rfl
theorem q213 : (Jvm.Cond.methodLink "Foundrymark" (159 : Nat) ({ cls := "java/util/Iterator", name := "hasNext", desc := "()Z" } : Jvm.MethodName)) ∈ lw_all := lw_g (lw_at lw_m1 174 rfl) rfl
theorem q222 : (Jvm.Cond.interfaceEntry "Foundrymark" (165 : Nat)) ∈ lw_tbl := lw_at lw_m1 183 rfl
theorem q223 : (Jvm.Cond.methodLink "Foundrymark" (165 : Nat) ({ cls := "java/util/Iterator", name := "next", desc := "()Ljava/lang/Object;" } : Jvm.MethodName)) ∈ lw_all := lw_g (lw_at lw_m1 184 rfl) rfl
theorem q304 : (Jvm.Cond.classLink "Foundrymark" (151 : Nat) "Foundrymark$Order") ∈ lw_all := lw_g (lw_at lw_m2 25 rfl) rfl
theorem q305 : (Jvm.Cond.methodLink "Foundrymark" (440 : Nat) ({ cls := "Foundrymark", name := "lotsInIt", desc := "(LFoundrymark$Order;)I" } : Jvm.MethodName)) ∈ lw_all := lw_g (lw_at lw_m2 26 rfl) rfl
theorem q306 : (Jvm.Cond.privateMethod ({ cls := "Foundrymark", name := "lotsInIt", desc := "(LFoundrymark$Order;)I" } : Jvm.MethodName)) ∈ lw_tbl := lw_at lw_m2 27 rfl
theorem q307 : (Jvm.Cond.instanceMethod ({ cls := "Foundrymark", name := "lotsInIt", desc := "(LFoundrymark$Order;)I" } : Jvm.MethodName)) ∈ lw_all := lw_g (lw_at lw_m2 28 rfl) rfl
theorem q308 : (Jvm.Cond.code ({ cls := "Foundrymark", name := "lotsInIt", desc := "(LFoundrymark$Order;)I" } : Jvm.MethodName) prog_1_method_56_code (8 : Nat) (Option.some Jvm.ClassFile.FieldType.int)) ∈ lw_all := lw_g (lw_at lw_m2 29 rfl) rfl
theorem q309 : (Jvm.Cond.classLink "Foundrymark" (169 : Nat) "Foundrymark$Taken") ∈ lw_all := lw_g (lw_at lw_m2 30 rfl) rfl
theorem q310 : (Jvm.Cond.methodLink "Foundrymark" (436 : Nat) ({ cls := "Foundrymark", name := "reach", desc := "(LFoundrymark$Lot;[Z)V" } : Jvm.MethodName)) ∈ lw_all := lw_g (lw_at lw_m2 31 rfl) rfl
theorem q311 : (Jvm.Cond.static ({ cls := "Foundrymark", name := "reach", desc := "(LFoundrymark$Lot;[Z)V" } : Jvm.MethodName)) ∈ lw_all := lw_g (lw_at lw_m2 32 rfl) rfl
theorem q312 : (Jvm.Cond.code ({ cls := "Foundrymark", name := "reach", desc := "(LFoundrymark$Lot;[Z)V" } : Jvm.MethodName) prog_1_method_55_code (4 : Nat) (Option.none : Option Jvm.ClassFile.FieldType)) ∈ lw_all := lw_g (lw_at lw_m2 33 rfl) rfl
theorem q313 : (Jvm.Cond.methodLink "Foundrymark" (456 : Nat) ({ cls := "Foundrymark", name := "touched", desc := "(I)I" } : Jvm.MethodName)) ∈ lw_all := lw_g (lw_at lw_m2 34 rfl) rfl
theorem q314 : (Jvm.Cond.instanceMethod ({ cls := "Foundrymark", name := "touched", desc := "(I)I" } : Jvm.MethodName)) ∈ lw_all := lw_g (lw_at lw_m2 35 rfl) rfl
theorem q315 : (Jvm.Cond.selects "Foundrymark" ({ cls := "Foundrymark", name := "touched", desc := "(I)I" } : Jvm.MethodName) ({ cls := "Foundrymark", name := "touched", desc := "(I)I" } : Jvm.MethodName)) ∈ lw_all := lw_g (lw_at lw_m2 36 rfl) rfl
theorem q316 : (Jvm.Cond.code ({ cls := "Foundrymark", name := "touched", desc := "(I)I" } : Jvm.MethodName) prog_1_method_54_code (6 : Nat) (Option.some Jvm.ClassFile.FieldType.int)) ∈ lw_all := lw_g (lw_at lw_m2 37 rfl) rfl
theorem q317 : (Jvm.Cond.methodLink "Foundrymark" (203 : Nat) ({ cls := "Foundrymark", name := "lot", desc := "(I)LFoundrymark$Lot;" } : Jvm.MethodName)) ∈ lw_all := lw_g (lw_at lw_m2 38 rfl) rfl
theorem q318 : (Jvm.Cond.privateMethod ({ cls := "Foundrymark", name := "lot", desc := "(I)LFoundrymark$Lot;" } : Jvm.MethodName)) ∈ lw_tbl := lw_at lw_m2 39 rfl
theorem q319 : (Jvm.Cond.instanceMethod ({ cls := "Foundrymark", name := "lot", desc := "(I)LFoundrymark$Lot;" } : Jvm.MethodName)) ∈ lw_all := lw_g (lw_at lw_m2 40 rfl) rfl
theorem q320 : (Jvm.Cond.code ({ cls := "Foundrymark", name := "lot", desc := "(I)LFoundrymark$Lot;" } : Jvm.MethodName) prog_1_method_14_code (2 : Nat) (Option.some (Jvm.ClassFile.FieldType.object "Foundrymark$Lot"))) ∈ lw_all := lw_g (lw_at lw_m2 41 rfl) rfl
theorem q321 : (Jvm.Cond.methodLink "Foundrymark" (47 : Nat) ({ cls := "Foundrymark", name := "isBetween", desc := "(III)Z" } : Jvm.MethodName)) ∈ lw_all := lw_g (lw_at lw_m2 42 rfl) rfl
theorem q322 : (Jvm.Cond.static ({ cls := "Foundrymark", name := "isBetween", desc := "(III)Z" } : Jvm.MethodName)) ∈ lw_all := lw_g (lw_at lw_m2 43 rfl) rfl
theorem q323 : (Jvm.Cond.code ({ cls := "Foundrymark", name := "isBetween", desc := "(III)Z" } : Jvm.MethodName) prog_1_method_1_code (3 : Nat) (Option.some Jvm.ClassFile.FieldType.boolean)) ∈ lw_all := lw_g (lw_at lw_m2 44 rfl) rfl
theorem q324 : (Jvm.Cond.methodLink "Foundrymark" (79 : Nat) ({ cls := "Foundrymark", name := "requireIndex", desc := "(Z)V" } : Jvm.MethodName)) ∈ lw_all := lw_g (lw_at lw_m2 45 rfl) rfl
theorem q325 : (Jvm.Cond.static ({ cls := "Foundrymark", name := "requireIndex", desc := "(Z)V" } : Jvm.MethodName)) ∈ lw_all := lw_g (lw_at lw_m2 46 rfl) rfl
theorem q326 : (Jvm.Cond.code ({ cls := "Foundrymark", name := "requireIndex", desc := "(Z)V" } : Jvm.MethodName) prog_1_method_2_code (1 : Nat) (Option.none : Option Jvm.ClassFile.FieldType)) ∈ lw_all := lw_g (lw_at lw_m2 47 rfl) rfl
theorem q327 : (Jvm.Cond.classLink "Foundrymark" (1 : Nat) "java/lang/IndexOutOfBoundsException") ∈ lw_all := lw_g (lw_at lw_m2 48 rfl) rfl
theorem q336 : (Jvm.Cond.methodLink "Foundrymark" (3 : Nat) ({ cls := "java/lang/IndexOutOfBoundsException", name := "<init>", desc := "()V" } : Jvm.MethodName)) ∈ lw_all := lw_g (lw_at lw_m2 57 rfl) rfl
theorem q343 : (Jvm.Cond.methodLink "Foundrymark" (82 : Nat) ({ cls := "java/util/ArrayList", name := "get", desc := "(I)Ljava/lang/Object;" } : Jvm.MethodName)) ∈ lw_all := lw_g (lw_at lw_m2 64 rfl) rfl
theorem q357 : (Jvm.Cond.classLink "Foundrymark" (113 : Nat) "Foundrymark$Lot") ∈ lw_all := lw_g (lw_at lw_m2 78 rfl) rfl
theorem q358 : (Jvm.Cond.methodLink "Foundrymark" (429 : Nat) ({ cls := "Foundrymark", name := "isIn", desc := "(LFoundrymark$Lot;LFoundrymark$Order;)Z" } : Jvm.MethodName)) ∈ lw_all := lw_g (lw_at lw_m2 79 rfl) rfl
theorem q359 : (Jvm.Cond.static ({ cls := "Foundrymark", name := "isIn", desc := "(LFoundrymark$Lot;LFoundrymark$Order;)Z" } : Jvm.MethodName)) ∈ lw_all := lw_g (lw_at lw_m2 80 rfl) rfl
theorem q360 : (Jvm.Cond.code ({ cls := "Foundrymark", name := "isIn", desc := "(LFoundrymark$Lot;LFoundrymark$Order;)Z" } : Jvm.MethodName) prog_1_method_53_code (5 : Nat) (Option.some Jvm.ClassFile.FieldType.boolean)) ∈ lw_all := lw_g (lw_at lw_m2 81 rfl) rfl
theorem q361 : (Jvm.Cond.methodLink "Foundrymark" (425 : Nat) ({ cls := "Foundrymark$Lot", name := "isOf", desc := "(LFoundrymark$Lot;)Z" } : Jvm.MethodName)) ∈ lw_all := lw_g (lw_at lw_m2 82 rfl) rfl
theorem q372 : (Jvm.Cond.methodLink "Foundrymark" (460 : Nat) ({ cls := "Foundrymark", name := "arePiecesRight", desc := "()Z" } : Jvm.MethodName)) ∈ lw_all := lw_g (lw_at lw_m2 93 rfl) rfl
theorem q373 : (Jvm.Cond.privateMethod ({ cls := "Foundrymark", name := "arePiecesRight", desc := "()Z" } : Jvm.MethodName)) ∈ lw_tbl := lw_at lw_m2 94 rfl
theorem q374 : (Jvm.Cond.instanceMethod ({ cls := "Foundrymark", name := "arePiecesRight", desc := "()Z" } : Jvm.MethodName)) ∈ lw_all := lw_g (lw_at lw_m2 95 rfl) rfl
theorem q375 : (Jvm.Cond.code ({ cls := "Foundrymark", name := "arePiecesRight", desc := "()Z" } : Jvm.MethodName) prog_1_method_62_code (6 : Nat) (Option.some Jvm.ClassFile.FieldType.boolean)) ∈ lw_all := lw_g (lw_at lw_m2 96 rfl) rfl
theorem q376 : (Jvm.Cond.fieldLink "Foundrymark" (188 : Nat) "Foundrymark$Stage" "PROMISED" "LFoundrymark$Stage;") ∈ lw_all := lw_g (lw_at lw_m2 97 rfl) rfl
theorem q378 : (Jvm.Cond.methodLink "Foundrymark" (193 : Nat) ({ cls := "Foundrymark$Lot", name := "isHeld", desc := "()Z" } : Jvm.MethodName)) ∈ lw_all := lw_g (lw_at lw_m2 99 rfl) rfl
theorem q383 : (Jvm.Cond.methodLink "Foundrymark" (463 : Nat) ({ cls := "Foundrymark", name := "areCostsRight", desc := "()Z" } : Jvm.MethodName)) ∈ lw_all := lw_g (lw_at lw_m2 104 rfl) rfl
theorem q384 : (Jvm.Cond.privateMethod ({ cls := "Foundrymark", name := "areCostsRight", desc := "()Z" } : Jvm.MethodName)) ∈ lw_tbl := lw_at lw_m2 105 rfl
theorem q385 : (Jvm.Cond.instanceMethod ({ cls := "Foundrymark", name := "areCostsRight", desc := "()Z" } : Jvm.MethodName)) ∈ lw_all := lw_g (lw_at lw_m2 106 rfl) rfl
theorem q386 : (Jvm.Cond.code ({ cls := "Foundrymark", name := "areCostsRight", desc := "()Z" } : Jvm.MethodName) prog_1_method_63_code (5 : Nat) (Option.some Jvm.ClassFile.FieldType.boolean)) ∈ lw_all := lw_g (lw_at lw_m2 107 rfl) rfl
theorem q387 : (Jvm.Cond.methodLink "Foundrymark" (394 : Nat) ({ cls := "Foundrymark$Stage", name := "isUnderWay", desc := "()Z" } : Jvm.MethodName)) ∈ lw_all := lw_g (lw_at lw_m2 108 rfl) rfl
theorem q395 : (Jvm.Cond.methodLink "Foundrymark" (444 : Nat) ({ cls := "Foundrymark", name := "costOf", desc := "(Ljava/util/ArrayList;)J" } : Jvm.MethodName)) ∈ lw_all := lw_g (lw_at lw_m2 116 rfl) rfl
theorem q396 : (Jvm.Cond.static ({ cls := "Foundrymark", name := "costOf", desc := "(Ljava/util/ArrayList;)J" } : Jvm.MethodName)) ∈ lw_all := lw_g (lw_at lw_m2 117 rfl) rfl
theorem q397 : (Jvm.Cond.code ({ cls := "Foundrymark", name := "costOf", desc := "(Ljava/util/ArrayList;)J" } : Jvm.MethodName) prog_1_method_58_code (5 : Nat) (Option.some Jvm.ClassFile.FieldType.long)) ∈ lw_all := lw_g (lw_at lw_m2 118 rfl) rfl
theorem q405 : (Jvm.Cond.instanceMethod ({ cls := "Foundrymark", name := "addMachine", desc := "(IIII)I" } : Jvm.MethodName)) ∈ lw_all := lw_g (lw_at lw_m2 126 rfl) rfl
theorem q406 : (Jvm.Cond.selects "Foundrymark" ({ cls := "Foundrymark", name := "addMachine", desc := "(IIII)I" } : Jvm.MethodName) ({ cls := "Foundrymark", name := "addMachine", desc := "(IIII)I" } : Jvm.MethodName)) ∈ lw_all := lw_g (lw_at lw_m2 127 rfl) rfl
theorem q407 : (Jvm.Cond.code ({ cls := "Foundrymark", name := "addMachine", desc := "(IIII)I" } : Jvm.MethodName) prog_1_method_8_code (5 : Nat) (Option.some Jvm.ClassFile.FieldType.int)) ∈ lw_all := lw_g (lw_at lw_m2 128 rfl) rfl
theorem q408 : (Jvm.Cond.methodLink "Foundrymark" (51 : Nat) ({ cls := "Foundrymark", name := "requireArgument", desc := "(Z)V" } : Jvm.MethodName)) ∈ lw_all := lw_g (lw_at lw_m2 129 rfl) rfl
theorem q409 : (Jvm.Cond.static ({ cls := "Foundrymark", name := "requireArgument", desc := "(Z)V" } : Jvm.MethodName)) ∈ lw_all := lw_g (lw_at lw_m2 130 rfl) rfl
theorem q410 : (Jvm.Cond.code ({ cls := "Foundrymark", name := "requireArgument", desc := "(Z)V" } : Jvm.MethodName) prog_1_method_3_code (1 : Nat) (Option.none : Option Jvm.ClassFile.FieldType)) ∈ lw_all := lw_g (lw_at lw_m2 131 rfl) rfl
theorem q411 : (Jvm.Cond.classLink "Foundrymark" (7 : Nat) "java/lang/IllegalArgumentException") ∈ lw_all := lw_g (lw_at lw_m2 132 rfl) rfl
theorem q420 : (Jvm.Cond.methodLink "Foundrymark" (9 : Nat) ({ cls := "java/lang/IllegalArgumentException", name := "<init>", desc := "()V" } : Jvm.MethodName)) ∈ lw_all := lw_g (lw_at lw_m2 141 rfl) rfl
theorem q426 : (Jvm.Cond.methodLink "Foundrymark" (59 : Nat) ({ cls := "Foundrymark", name := "requireState", desc := "(Z)V" } : Jvm.MethodName)) ∈ lw_all := lw_g (lw_at lw_m2 147 rfl) rfl
theorem q427 : (Jvm.Cond.static ({ cls := "Foundrymark", name := "requireState", desc := "(Z)V" } : Jvm.MethodName)) ∈ lw_all := lw_g (lw_at lw_m2 148 rfl) rfl
theorem q428 : (Jvm.Cond.code ({ cls := "Foundrymark", name := "requireState", desc := "(Z)V" } : Jvm.MethodName) prog_1_method_4_code (1 : Nat) (Option.none : Option Jvm.ClassFile.FieldType)) ∈ lw_all := lw_g (lw_at lw_m2 149 rfl) rfl
theorem q429 : (Jvm.Cond.classLink "Foundrymark" (10 : Nat) "java/lang/IllegalStateException") ∈ lw_all := lw_g (lw_at lw_m2 150 rfl) rfl
theorem q438 : (Jvm.Cond.methodLink "Foundrymark" (12 : Nat) ({ cls := "java/lang/IllegalStateException", name := "<init>", desc := "()V" } : Jvm.MethodName)) ∈ lw_all := lw_g (lw_at lw_m2 159 rfl) rfl
theorem q444 : (Jvm.Cond.classLink "Foundrymark" (62 : Nat) "Foundrymark$Machine") ∈ lw_all := lw_g (lw_at lw_m2 165 rfl) rfl
theorem q446 : (Jvm.Cond.methodLink "Foundrymark" (64 : Nat) ({ cls := "Foundrymark$Machine", name := "<init>", desc := "(IIII)V" } : Jvm.MethodName)) ∈ lw_all := lw_g (lw_at lw_m2 167 rfl) rfl
theorem q480 : (Jvm.Cond.fieldLink "Foundrymark" (378 : Nat) "Foundrymark$Machine" "rate" "I") ∈ lw_all := lw_g (lw_at lw_m2 201 rfl) rfl
theorem q482 : (Jvm.Cond.fieldLink "Foundrymark" (369 : Nat) "Foundrymark$Machine" "setup" "I") ∈ lw_all := lw_g (lw_at lw_m2 203 rfl) rfl
theorem q484 : (Jvm.Cond.fieldLink "Foundrymark" (350 : Nat) "Foundrymark$Machine" "life" "I") ∈ lw_all := lw_g (lw_at lw_m2 205 rfl) rfl
theorem q486 : (Jvm.Cond.fieldLink "Foundrymark" (353 : Nat) "Foundrymark$Machine" "repair" "I") ∈ lw_all := lw_g (lw_at lw_m2 207 rfl) rfl
theorem q488 : (Jvm.Cond.fieldLink "Foundrymark" (314 : Nat) "Foundrymark$Machine" "queue" "Ljava/util/PriorityQueue;") ∈ lw_all := lw_g (lw_at lw_m2 209 rfl) rfl
theorem q490 : (Jvm.Cond.fieldLink "Foundrymark" (365 : Nat) "Foundrymark$Machine" "family" "I") ∈ lw_all := lw_g (lw_at lw_m2 211 rfl) rfl
theorem q491 : (Jvm.Cond.fieldLink "Foundrymark" (347 : Nat) "Foundrymark$Machine" "wear" "I") ∈ lw_all := lw_g (lw_at lw_m2 212 rfl) rfl
theorem q493 : (Jvm.Cond.fieldLink "Foundrymark" (337 : Nat) "Foundrymark$Machine" "working" "LFoundrymark$Order;") ∈ lw_all := lw_g (lw_at lw_m2 214 rfl) rfl
theorem q495 : (Jvm.Cond.fieldLink "Foundrymark" (334 : Nat) "Foundrymark$Machine" "isBroken" "Z") ∈ lw_all := lw_g (lw_at lw_m2 216 rfl) rfl
theorem q496 : (Jvm.Cond.fieldLink "Foundrymark" (344 : Nat) "Foundrymark$Machine" "began" "I") ∈ lw_all := lw_g (lw_at lw_m2 217 rfl) rfl
theorem q498 : (Jvm.Cond.fieldLink "Foundrymark" (356 : Nat) "Foundrymark$Machine" "ends" "I") ∈ lw_all := lw_g (lw_at lw_m2 219 rfl) rfl
theorem q499 : (Jvm.Cond.fieldLink "Foundrymark" (341 : Nat) "Foundrymark$Machine" "busy" "J") ∈ lw_all := lw_g (lw_at lw_m2 220 rfl) rfl
theorem q525 : (Jvm.Cond.methodLink "Foundrymark" (67 : Nat) ({ cls := "java/util/ArrayList", name := "add", desc := "(Ljava/lang/Object;)Z" } : Jvm.MethodName)) ∈ lw_all := lw_g (lw_at lw_m3 6 rfl) rfl
theorem q557 : (Jvm.Cond.selects "Foundrymark" ({ cls := "java/lang/Object", name := "getClass", desc := "()Ljava/lang/Class;" } : Jvm.MethodName) ({ cls := "java/lang/Object", name := "getClass", desc := "()Ljava/lang/Class;" } : Jvm.MethodName)) ∈ lw_all := lw_g (lw_at lw_m3 38 rfl) rfl
theorem q607 : (Jvm.Cond.instanceMethod ({ cls := "Foundrymark", name := "addPart", desc := "(ZI)I" } : Jvm.MethodName)) ∈ lw_all := lw_g (lw_at lw_m3 88 rfl) rfl
theorem q608 : (Jvm.Cond.selects "Foundrymark" ({ cls := "Foundrymark", name := "addPart", desc := "(ZI)I" } : Jvm.MethodName) ({ cls := "Foundrymark", name := "addPart", desc := "(ZI)I" } : Jvm.MethodName)) ∈ lw_all := lw_g (lw_at lw_m3 89 rfl) rfl
theorem q609 : (Jvm.Cond.code ({ cls := "Foundrymark", name := "addPart", desc := "(ZI)I" } : Jvm.MethodName) prog_1_method_9_code (4 : Nat) (Option.some Jvm.ClassFile.FieldType.int)) ∈ lw_all := lw_g (lw_at lw_m3 90 rfl) rfl
theorem q610 : (Jvm.Cond.classLink "Foundrymark" (71 : Nat) "Foundrymark$Made") ∈ lw_all := lw_g (lw_at lw_m3 91 rfl) rfl
theorem q612 : (Jvm.Cond.methodLink "Foundrymark" (73 : Nat) ({ cls := "Foundrymark$Made", name := "<init>", desc := "(II)V" } : Jvm.MethodName)) ∈ lw_all := lw_g (lw_at lw_m3 93 rfl) rfl
theorem q622 : (Jvm.Cond.fieldLink "Foundrymark" (95 : Nat) "Foundrymark$Made" "components" "Ljava/util/ArrayList;") ∈ lw_all := lw_g (lw_at lw_m3 103 rfl) rfl
theorem q624 : (Jvm.Cond.fieldLink "Foundrymark" (107 : Nat) "Foundrymark$Made" "operations" "Ljava/util/ArrayList;") ∈ lw_all := lw_g (lw_at lw_m3 105 rfl) rfl
theorem q626 : (Jvm.Cond.fieldLink "Foundrymark" (230 : Nat) "Foundrymark$Part" "number" "I") ∈ lw_all := lw_g (lw_at lw_m3 107 rfl) rfl
theorem q628 : (Jvm.Cond.fieldLink "Foundrymark" (368 : Nat) "Foundrymark$Part" "family" "I") ∈ lw_all := lw_g (lw_at lw_m3 109 rfl) rfl
theorem q630 : (Jvm.Cond.fieldLink "Foundrymark" (209 : Nat) "Foundrymark$Part" "centre" "I") ∈ lw_all := lw_g (lw_at lw_m3 111 rfl) rfl
theorem q632 : (Jvm.Cond.fieldLink "Foundrymark" (212 : Nat) "Foundrymark$Part" "width" "I") ∈ lw_all := lw_g (lw_at lw_m3 113 rfl) rfl
theorem q634 : (Jvm.Cond.fieldLink "Foundrymark" (221 : Nat) "Foundrymark$Part" "measured" "I") ∈ lw_all := lw_g (lw_at lw_m3 115 rfl) rfl
theorem q636 : (Jvm.Cond.fieldLink "Foundrymark" (215 : Nat) "Foundrymark$Part" "above" "I") ∈ lw_all := lw_g (lw_at lw_m3 117 rfl) rfl
theorem q638 : (Jvm.Cond.fieldLink "Foundrymark" (218 : Nat) "Foundrymark$Part" "below" "I") ∈ lw_all := lw_g (lw_at lw_m3 119 rfl) rfl
theorem q658 : (Jvm.Cond.classLink "Foundrymark" (76 : Nat) "Foundrymark$Bought") ∈ lw_all := lw_g (lw_at lw_m3 139 rfl) rfl
theorem q660 : (Jvm.Cond.methodLink "Foundrymark" (78 : Nat) ({ cls := "Foundrymark$Bought", name := "<init>", desc := "(II)V" } : Jvm.MethodName)) ∈ lw_all := lw_g (lw_at lw_m3 141 rfl) rfl
theorem q710 : (Jvm.Cond.instanceMethod ({ cls := "Foundrymark", name := "addComponent", desc := "(IIII)I" } : Jvm.MethodName)) ∈ lw_all := lw_g (lw_at lw_m3 191 rfl) rfl
theorem q711 : (Jvm.Cond.selects "Foundrymark" ({ cls := "Foundrymark", name := "addComponent", desc := "(IIII)I" } : Jvm.MethodName) ({ cls := "Foundrymark", name := "addComponent", desc := "(IIII)I" } : Jvm.MethodName)) ∈ lw_all := lw_g (lw_at lw_m3 192 rfl) rfl
theorem q712 : (Jvm.Cond.code ({ cls := "Foundrymark", name := "addComponent", desc := "(IIII)I" } : Jvm.MethodName) prog_1_method_12_code (7 : Nat) (Option.some Jvm.ClassFile.FieldType.int)) ∈ lw_all := lw_g (lw_at lw_m3 193 rfl) rfl
theorem q713 : (Jvm.Cond.methodLink "Foundrymark" (88 : Nat) ({ cls := "Foundrymark", name := "part", desc := "(I)LFoundrymark$Part;" } : Jvm.MethodName)) ∈ lw_all := lw_g (lw_at lw_m3 194 rfl) rfl
theorem q714 : (Jvm.Cond.privateMethod ({ cls := "Foundrymark", name := "part", desc := "(I)LFoundrymark$Part;" } : Jvm.MethodName)) ∈ lw_tbl := lw_at lw_m3 195 rfl
theorem q715 : (Jvm.Cond.instanceMethod ({ cls := "Foundrymark", name := "part", desc := "(I)LFoundrymark$Part;" } : Jvm.MethodName)) ∈ lw_all := lw_g (lw_at lw_m3 196 rfl) rfl
theorem q716 : (Jvm.Cond.code ({ cls := "Foundrymark", name := "part", desc := "(I)LFoundrymark$Part;" } : Jvm.MethodName) prog_1_method_10_code (2 : Nat) (Option.some (Jvm.ClassFile.FieldType.object "Foundrymark$Part"))) ∈ lw_all := lw_g (lw_at lw_m3 197 rfl) rfl
theorem q717 : (Jvm.Cond.classLink "Foundrymark" (86 : Nat) "Foundrymark$Part") ∈ lw_all := lw_g (lw_at lw_m3 198 rfl) rfl
theorem q718 : (Jvm.Cond.methodLink "Foundrymark" (92 : Nat) ({ cls := "Foundrymark", name := "requireSupported", desc := "(Z)V" } : Jvm.MethodName)) ∈ lw_all := lw_g (lw_at lw_m3 199 rfl) rfl
theorem q719 : (Jvm.Cond.static ({ cls := "Foundrymark", name := "requireSupported", desc := "(Z)V" } : Jvm.MethodName)) ∈ lw_all := lw_g (lw_at lw_m3 200 rfl) rfl
theorem q720 : (Jvm.Cond.code ({ cls := "Foundrymark", name := "requireSupported", desc := "(Z)V" } : Jvm.MethodName) prog_1_method_5_code (1 : Nat) (Option.none : Option Jvm.ClassFile.FieldType)) ∈ lw_all := lw_g (lw_at lw_m3 201 rfl) rfl
theorem q721 : (Jvm.Cond.classLink "Foundrymark" (13 : Nat) "java/lang/UnsupportedOperationException") ∈ lw_all := lw_g (lw_at lw_m3 202 rfl) rfl
theorem q730 : (Jvm.Cond.methodLink "Foundrymark" (15 : Nat) ({ cls := "java/lang/UnsupportedOperationException", name := "<init>", desc := "()V" } : Jvm.MethodName)) ∈ lw_all := lw_g (lw_at lw_m3 211 rfl) rfl
theorem q736 : (Jvm.Cond.classLink "Foundrymark" (98 : Nat) "Foundrymark$Component") ∈ lw_all := lw_g (lw_at lw_m3 217 rfl) rfl
theorem q738 : (Jvm.Cond.methodLink "Foundrymark" (100 : Nat) ({ cls := "Foundrymark$Component", name := "<init>", desc := "(III)V" } : Jvm.MethodName)) ∈ lw_all := lw_g (lw_at lw_m3 219 rfl) rfl
theorem q743 : (Jvm.Cond.fieldLink "Foundrymark" (261 : Nat) "Foundrymark$Component" "part" "I") ∈ lw_all := lw_g (lw_at lw_m3 224 rfl) rfl
theorem q745 : (Jvm.Cond.fieldLink "Foundrymark" (266 : Nat) "Foundrymark$Component" "pieces" "I") ∈ lw_all := lw_g (lw_at lw_m3 226 rfl) rfl
theorem q758 : (Jvm.Cond.instanceMethod ({ cls := "Foundrymark", name := "addOperation", desc := "(IIII)I" } : Jvm.MethodName)) ∈ lw_all := lw_g (lw_at lw_m3 239 rfl) rfl
theorem q759 : (Jvm.Cond.selects "Foundrymark" ({ cls := "Foundrymark", name := "addOperation", desc := "(IIII)I" } : Jvm.MethodName) ({ cls := "Foundrymark", name := "addOperation", desc := "(IIII)I" } : Jvm.MethodName)) ∈ lw_all := lw_g (lw_at lw_m4 0 rfl) rfl
theorem q760 : (Jvm.Cond.code ({ cls := "Foundrymark", name := "addOperation", desc := "(IIII)I" } : Jvm.MethodName) prog_1_method_13_code (7 : Nat) (Option.some Jvm.ClassFile.FieldType.int)) ∈ lw_all := lw_g (lw_at lw_m4 1 rfl) rfl
theorem q761 : (Jvm.Cond.methodLink "Foundrymark" (103 : Nat) ({ cls := "Foundrymark", name := "machine", desc := "(I)LFoundrymark$Machine;" } : Jvm.MethodName)) ∈ lw_all := lw_g (lw_at lw_m4 2 rfl) rfl
theorem q762 : (Jvm.Cond.privateMethod ({ cls := "Foundrymark", name := "machine", desc := "(I)LFoundrymark$Machine;" } : Jvm.MethodName)) ∈ lw_tbl := lw_at lw_m4 3 rfl
theorem q763 : (Jvm.Cond.instanceMethod ({ cls := "Foundrymark", name := "machine", desc := "(I)LFoundrymark$Machine;" } : Jvm.MethodName)) ∈ lw_all := lw_g (lw_at lw_m4 4 rfl) rfl
theorem q764 : (Jvm.Cond.code ({ cls := "Foundrymark", name := "machine", desc := "(I)LFoundrymark$Machine;" } : Jvm.MethodName) prog_1_method_11_code (2 : Nat) (Option.some (Jvm.ClassFile.FieldType.object "Foundrymark$Machine"))) ∈ lw_all := lw_g (lw_at lw_m4 5 rfl) rfl
theorem q765 : (Jvm.Cond.classLink "Foundrymark" (110 : Nat) "Foundrymark$Operation") ∈ lw_all := lw_g (lw_at lw_m4 6 rfl) rfl
theorem q767 : (Jvm.Cond.methodLink "Foundrymark" (112 : Nat) ({ cls := "Foundrymark$Operation", name := "<init>", desc := "(III)V" } : Jvm.MethodName)) ∈ lw_all := lw_g (lw_at lw_m4 8 rfl) rfl
theorem q772 : (Jvm.Cond.fieldLink "Foundrymark" (306 : Nat) "Foundrymark$Operation" "machine" "I") ∈ lw_all := lw_g (lw_at lw_m4 13 rfl) rfl
theorem q774 : (Jvm.Cond.fieldLink "Foundrymark" (308 : Nat) "Foundrymark$Operation" "alternative" "I") ∈ lw_all := lw_g (lw_at lw_m4 15 rfl) rfl
theorem q776 : (Jvm.Cond.fieldLink "Foundrymark" (372 : Nat) "Foundrymark$Operation" "time" "I") ∈ lw_all := lw_g (lw_at lw_m4 17 rfl) rfl
theorem q788 : (Jvm.Cond.instanceMethod ({ cls := "Foundrymark", name := "receive", desc := "(IIIII)I" } : Jvm.MethodName)) ∈ lw_all := lw_g (lw_at lw_m4 29 rfl) rfl
theorem q789 : (Jvm.Cond.selects "Foundrymark" ({ cls := "Foundrymark", name := "receive", desc := "(IIIII)I" } : Jvm.MethodName) ({ cls := "Foundrymark", name := "receive", desc := "(IIIII)I" } : Jvm.MethodName)) ∈ lw_all := lw_g (lw_at lw_m4 30 rfl) rfl
theorem q790 : (Jvm.Cond.code ({ cls := "Foundrymark", name := "receive", desc := "(IIIII)I" } : Jvm.MethodName) prog_1_method_16_code (10 : Nat) (Option.some Jvm.ClassFile.FieldType.int)) ∈ lw_all := lw_g (lw_at lw_m4 31 rfl) rfl
theorem q791 : (Jvm.Cond.methodLink "Foundrymark" (126 : Nat) ({ cls := "Foundrymark", name := "add", desc := "(LFoundrymark$Part;IJLjava/util/ArrayList;)LFoundrymark$Lot;" } : Jvm.MethodName)) ∈ lw_all := lw_g (lw_at lw_m4 32 rfl) rfl
theorem q792 : (Jvm.Cond.privateMethod ({ cls := "Foundrymark", name := "add", desc := "(LFoundrymark$Part;IJLjava/util/ArrayList;)LFoundrymark$Lot;" } : Jvm.MethodName)) ∈ lw_tbl := lw_at lw_m4 33 rfl
theorem q793 : (Jvm.Cond.instanceMethod ({ cls := "Foundrymark", name := "add", desc := "(LFoundrymark$Part;IJLjava/util/ArrayList;)LFoundrymark$Lot;" } : Jvm.MethodName)) ∈ lw_all := lw_g (lw_at lw_m4 34 rfl) rfl
theorem q794 : (Jvm.Cond.code ({ cls := "Foundrymark", name := "add", desc := "(LFoundrymark$Part;IJLjava/util/ArrayList;)LFoundrymark$Lot;" } : Jvm.MethodName) prog_1_method_15_code (7 : Nat) (Option.some (Jvm.ClassFile.FieldType.object "Foundrymark$Lot"))) ∈ lw_all := lw_g (lw_at lw_m4 35 rfl) rfl
theorem q796 : (Jvm.Cond.methodLink "Foundrymark" (115 : Nat) ({ cls := "Foundrymark$Lot", name := "<init>", desc := "(ILFoundrymark$Part;IJLjava/util/ArrayList;)V" } : Jvm.MethodName)) ∈ lw_all := lw_g (lw_at lw_m4 37 rfl) rfl
theorem q801 : (Jvm.Cond.fieldLink "Foundrymark" (137 : Nat) "Foundrymark$Lot" "number" "I") ∈ lw_all := lw_g (lw_at lw_m4 42 rfl) rfl
theorem q803 : (Jvm.Cond.fieldLink "Foundrymark" (224 : Nat) "Foundrymark$Lot" "part" "LFoundrymark$Part;") ∈ lw_all := lw_g (lw_at lw_m4 44 rfl) rfl
theorem q805 : (Jvm.Cond.fieldLink "Foundrymark" (455 : Nat) "Foundrymark$Lot" "quantity" "I") ∈ lw_all := lw_g (lw_at lw_m4 46 rfl) rfl
theorem q807 : (Jvm.Cond.fieldLink "Foundrymark" (433 : Nat) "Foundrymark$Lot" "madeOf" "Ljava/util/ArrayList;") ∈ lw_all := lw_g (lw_at lw_m4 48 rfl) rfl
theorem q809 : (Jvm.Cond.fieldLink "Foundrymark" (231 : Nat) "Foundrymark$Lot" "rest" "I") ∈ lw_all := lw_g (lw_at lw_m4 50 rfl) rfl
theorem q810 : (Jvm.Cond.fieldLink "Foundrymark" (175 : Nat) "Foundrymark$Lot" "reserved" "I") ∈ lw_all := lw_g (lw_at lw_m4 51 rfl) rfl
theorem q812 : (Jvm.Cond.fieldLink "Foundrymark" (234 : Nat) "Foundrymark$Lot" "cost" "J") ∈ lw_all := lw_g (lw_at lw_m4 53 rfl) rfl
theorem q814 : (Jvm.Cond.fieldLink "Foundrymark" (133 : Nat) "Foundrymark$Lot" "isOnHold" "Z") ∈ lw_all := lw_g (lw_at lw_m4 55 rfl) rfl
theorem q832 : (Jvm.Cond.methodLink "Foundrymark" (129 : Nat) ({ cls := "Foundrymark$Supplier", name := "refuses", desc := "(I)Z" } : Jvm.MethodName)) ∈ lw_all := lw_g (lw_at lw_m4 73 rfl) rfl
theorem q892 : (Jvm.Cond.instanceMethod ({ cls := "Foundrymark", name := "rule", desc := "(I)C" } : Jvm.MethodName)) ∈ lw_all := lw_g (lw_at lw_m4 133 rfl) rfl
theorem q893 : (Jvm.Cond.selects "Foundrymark" ({ cls := "Foundrymark", name := "rule", desc := "(I)C" } : Jvm.MethodName) ({ cls := "Foundrymark", name := "rule", desc := "(I)C" } : Jvm.MethodName)) ∈ lw_all := lw_g (lw_at lw_m4 134 rfl) rfl
theorem q894 : (Jvm.Cond.code ({ cls := "Foundrymark", name := "rule", desc := "(I)C" } : Jvm.MethodName) prog_1_method_17_code (2 : Nat) (Option.some Jvm.ClassFile.FieldType.char)) ∈ lw_all := lw_g (lw_at lw_m4 135 rfl) rfl
theorem q899 : (Jvm.Cond.instanceMethod ({ cls := "Foundrymark", name := "hold", desc := "(IZ)I" } : Jvm.MethodName)) ∈ lw_all := lw_g (lw_at lw_m4 140 rfl) rfl
theorem q900 : (Jvm.Cond.selects "Foundrymark" ({ cls := "Foundrymark", name := "hold", desc := "(IZ)I" } : Jvm.MethodName) ({ cls := "Foundrymark", name := "hold", desc := "(IZ)I" } : Jvm.MethodName)) ∈ lw_all := lw_g (lw_at lw_m4 141 rfl) rfl
theorem q901 : (Jvm.Cond.code ({ cls := "Foundrymark", name := "hold", desc := "(IZ)I" } : Jvm.MethodName) prog_1_method_20_code (3 : Nat) (Option.some Jvm.ClassFile.FieldType.int)) ∈ lw_all := lw_g (lw_at lw_m4 142 rfl) rfl
theorem q902 : (Jvm.Cond.methodLink "Foundrymark" (206 : Nat) ({ cls := "Foundrymark", name := "losePromises", desc := "()I" } : Jvm.MethodName)) ∈ lw_all := lw_g (lw_at lw_m4 143 rfl) rfl
theorem q903 : (Jvm.Cond.privateMethod ({ cls := "Foundrymark", name := "losePromises", desc := "()I" } : Jvm.MethodName)) ∈ lw_tbl := lw_at lw_m4 144 rfl
theorem q904 : (Jvm.Cond.instanceMethod ({ cls := "Foundrymark", name := "losePromises", desc := "()I" } : Jvm.MethodName)) ∈ lw_all := lw_g (lw_at lw_m4 145 rfl) rfl
theorem q905 : (Jvm.Cond.code ({ cls := "Foundrymark", name := "losePromises", desc := "()I" } : Jvm.MethodName) prog_1_method_19_code (7 : Nat) (Option.some Jvm.ClassFile.FieldType.int)) ∈ lw_all := lw_g (lw_at lw_m4 146 rfl) rfl
theorem q906 : (Jvm.Cond.methodLink "Foundrymark" (196 : Nat) ({ cls := "Foundrymark", name := "takeBack", desc := "(LFoundrymark$Order;)V" } : Jvm.MethodName)) ∈ lw_all := lw_g (lw_at lw_m4 147 rfl) rfl
theorem q907 : (Jvm.Cond.privateMethod ({ cls := "Foundrymark", name := "takeBack", desc := "(LFoundrymark$Order;)V" } : Jvm.MethodName)) ∈ lw_tbl := lw_at lw_m4 148 rfl
theorem q908 : (Jvm.Cond.instanceMethod ({ cls := "Foundrymark", name := "takeBack", desc := "(LFoundrymark$Order;)V" } : Jvm.MethodName)) ∈ lw_all := lw_g (lw_at lw_m4 149 rfl) rfl
theorem q909 : (Jvm.Cond.code ({ cls := "Foundrymark", name := "takeBack", desc := "(LFoundrymark$Order;)V" } : Jvm.MethodName) prog_1_method_18_code (4 : Nat) (Option.none : Option Jvm.ClassFile.FieldType)) ∈ lw_all := lw_g (lw_at lw_m4 150 rfl) rfl
theorem q910 : (Jvm.Cond.methodLink "Foundrymark" (181 : Nat) ({ cls := "java/util/ArrayList", name := "clear", desc := "()V" } : Jvm.MethodName)) ∈ lw_all := lw_g (lw_at lw_m4 151 rfl) rfl
theorem q911 : (Jvm.Cond.fieldLink "Foundrymark" (200 : Nat) "Foundrymark$Stage" "NEW" "LFoundrymark$Stage;") ∈ lw_all := lw_g (lw_at lw_m4 152 rfl) rfl
theorem q917 : (Jvm.Cond.instanceMethod ({ cls := "Foundrymark", name := "isHeld", desc := "(I)Z" } : Jvm.MethodName)) ∈ lw_all := lw_g (lw_at lw_m4 158 rfl) rfl
theorem q918 : (Jvm.Cond.selects "Foundrymark" ({ cls := "Foundrymark", name := "isHeld", desc := "(I)Z" } : Jvm.MethodName) ({ cls := "Foundrymark", name := "isHeld", desc := "(I)Z" } : Jvm.MethodName)) ∈ lw_all := lw_g (lw_at lw_m4 159 rfl) rfl
theorem q919 : (Jvm.Cond.code ({ cls := "Foundrymark", name := "isHeld", desc := "(I)Z" } : Jvm.MethodName) prog_1_method_21_code (2 : Nat) (Option.some Jvm.ClassFile.FieldType.boolean)) ∈ lw_all := lw_g (lw_at lw_m4 160 rfl) rfl
theorem q924 : (Jvm.Cond.instanceMethod ({ cls := "Foundrymark", name := "setChart", desc := "(III)I" } : Jvm.MethodName)) ∈ lw_all := lw_g (lw_at lw_m4 165 rfl) rfl
theorem q925 : (Jvm.Cond.selects "Foundrymark" ({ cls := "Foundrymark", name := "setChart", desc := "(III)I" } : Jvm.MethodName) ({ cls := "Foundrymark", name := "setChart", desc := "(III)I" } : Jvm.MethodName)) ∈ lw_all := lw_g (lw_at lw_m4 166 rfl) rfl
theorem q926 : (Jvm.Cond.code ({ cls := "Foundrymark", name := "setChart", desc := "(III)I" } : Jvm.MethodName) prog_1_method_22_code (5 : Nat) (Option.some Jvm.ClassFile.FieldType.int)) ∈ lw_all := lw_g (lw_at lw_m4 167 rfl) rfl
theorem q931 : (Jvm.Cond.instanceMethod ({ cls := "Foundrymark", name := "measure", desc := "(II)Z" } : Jvm.MethodName)) ∈ lw_all := lw_g (lw_at lw_m4 172 rfl) rfl
theorem q932 : (Jvm.Cond.selects "Foundrymark" ({ cls := "Foundrymark", name := "measure", desc := "(II)Z" } : Jvm.MethodName) ({ cls := "Foundrymark", name := "measure", desc := "(II)Z" } : Jvm.MethodName)) ∈ lw_all := lw_g (lw_at lw_m4 173 rfl) rfl
theorem q933 : (Jvm.Cond.code ({ cls := "Foundrymark", name := "measure", desc := "(II)Z" } : Jvm.MethodName) prog_1_method_23_code (5 : Nat) (Option.some Jvm.ClassFile.FieldType.boolean)) ∈ lw_all := lw_g (lw_at lw_m4 174 rfl) rfl
theorem q934 : (Jvm.Cond.methodLink "Foundrymark" (227 : Nat) ({ cls := "Foundrymark$Part", name := "isOut", desc := "(I)Z" } : Jvm.MethodName)) ∈ lw_all := lw_g (lw_at lw_m4 175 rfl) rfl
theorem q947 : (Jvm.Cond.instanceMethod ({ cls := "Foundrymark", name := "partOf", desc := "(I)I" } : Jvm.MethodName)) ∈ lw_all := lw_g (lw_at lw_m4 188 rfl) rfl
theorem q948 : (Jvm.Cond.selects "Foundrymark" ({ cls := "Foundrymark", name := "partOf", desc := "(I)I" } : Jvm.MethodName) ({ cls := "Foundrymark", name := "partOf", desc := "(I)I" } : Jvm.MethodName)) ∈ lw_all := lw_g (lw_at lw_m4 189 rfl) rfl
theorem q949 : (Jvm.Cond.code ({ cls := "Foundrymark", name := "partOf", desc := "(I)I" } : Jvm.MethodName) prog_1_method_25_code (2 : Nat) (Option.some Jvm.ClassFile.FieldType.int)) ∈ lw_all := lw_g (lw_at lw_m4 190 rfl) rfl
theorem q954 : (Jvm.Cond.instanceMethod ({ cls := "Foundrymark", name := "rest", desc := "(I)I" } : Jvm.MethodName)) ∈ lw_all := lw_g (lw_at lw_m4 195 rfl) rfl
theorem q955 : (Jvm.Cond.selects "Foundrymark" ({ cls := "Foundrymark", name := "rest", desc := "(I)I" } : Jvm.MethodName) ({ cls := "Foundrymark", name := "rest", desc := "(I)I" } : Jvm.MethodName)) ∈ lw_all := lw_g (lw_at lw_m4 196 rfl) rfl
theorem q956 : (Jvm.Cond.code ({ cls := "Foundrymark", name := "rest", desc := "(I)I" } : Jvm.MethodName) prog_1_method_26_code (2 : Nat) (Option.some Jvm.ClassFile.FieldType.int)) ∈ lw_all := lw_g (lw_at lw_m4 197 rfl) rfl
theorem q961 : (Jvm.Cond.instanceMethod ({ cls := "Foundrymark", name := "reserved", desc := "(I)I" } : Jvm.MethodName)) ∈ lw_all := lw_g (lw_at lw_m4 202 rfl) rfl
theorem q962 : (Jvm.Cond.selects "Foundrymark" ({ cls := "Foundrymark", name := "reserved", desc := "(I)I" } : Jvm.MethodName) ({ cls := "Foundrymark", name := "reserved", desc := "(I)I" } : Jvm.MethodName)) ∈ lw_all := lw_g (lw_at lw_m4 203 rfl) rfl
theorem q963 : (Jvm.Cond.code ({ cls := "Foundrymark", name := "reserved", desc := "(I)I" } : Jvm.MethodName) prog_1_method_27_code (2 : Nat) (Option.some Jvm.ClassFile.FieldType.int)) ∈ lw_all := lw_g (lw_at lw_m4 204 rfl) rfl
theorem q968 : (Jvm.Cond.instanceMethod ({ cls := "Foundrymark", name := "costOf", desc := "(I)J" } : Jvm.MethodName)) ∈ lw_all := lw_g (lw_at lw_m4 209 rfl) rfl
theorem q969 : (Jvm.Cond.selects "Foundrymark" ({ cls := "Foundrymark", name := "costOf", desc := "(I)J" } : Jvm.MethodName) ({ cls := "Foundrymark", name := "costOf", desc := "(I)J" } : Jvm.MethodName)) ∈ lw_all := lw_g (lw_at lw_m4 210 rfl) rfl
theorem q970 : (Jvm.Cond.code ({ cls := "Foundrymark", name := "costOf", desc := "(I)J" } : Jvm.MethodName) prog_1_method_28_code (2 : Nat) (Option.some Jvm.ClassFile.FieldType.long)) ∈ lw_all := lw_g (lw_at lw_m4 211 rfl) rfl
theorem q975 : (Jvm.Cond.instanceMethod ({ cls := "Foundrymark", name := "order", desc := "(IIII)I" } : Jvm.MethodName)) ∈ lw_all := lw_g (lw_at lw_m4 216 rfl) rfl
theorem q976 : (Jvm.Cond.selects "Foundrymark" ({ cls := "Foundrymark", name := "order", desc := "(IIII)I" } : Jvm.MethodName) ({ cls := "Foundrymark", name := "order", desc := "(IIII)I" } : Jvm.MethodName)) ∈ lw_all := lw_g (lw_at lw_m4 217 rfl) rfl
theorem q977 : (Jvm.Cond.code ({ cls := "Foundrymark", name := "order", desc := "(IIII)I" } : Jvm.MethodName) prog_1_method_30_code (6 : Nat) (Option.some Jvm.ClassFile.FieldType.int)) ∈ lw_all := lw_g (lw_at lw_m4 218 rfl) rfl
theorem q979 : (Jvm.Cond.methodLink "Foundrymark" (237 : Nat) ({ cls := "Foundrymark$Order", name := "<init>", desc := "(ILFoundrymark$Part;III)V" } : Jvm.MethodName)) ∈ lw_all := lw_g (lw_at lw_m4 220 rfl) rfl
theorem q988 : (Jvm.Cond.fieldLink "Foundrymark" (254 : Nat) "Foundrymark$Order" "part" "LFoundrymark$Part;") ∈ lw_all := lw_g (lw_at lw_m4 229 rfl) rfl
theorem q990 : (Jvm.Cond.fieldLink "Foundrymark" (263 : Nat) "Foundrymark$Order" "quantity" "I") ∈ lw_all := lw_g (lw_at lw_m4 231 rfl) rfl
theorem q992 : (Jvm.Cond.fieldLink "Foundrymark" (255 : Nat) "Foundrymark$Order" "option" "I") ∈ lw_all := lw_g (lw_at lw_m4 233 rfl) rfl
theorem q994 : (Jvm.Cond.fieldLink "Foundrymark" (448 : Nat) "Foundrymark$Order" "due" "I") ∈ lw_all := lw_g (lw_at lw_m4 235 rfl) rfl
theorem q996 : (Jvm.Cond.fieldLink "Foundrymark" (150 : Nat) "Foundrymark$Order" "taken" "Ljava/util/ArrayList;") ∈ lw_all := lw_g (lw_at lw_m4 237 rfl) rfl
theorem q998 : (Jvm.Cond.fieldLink "Foundrymark" (407 : Nat) "Foundrymark$Order" "delivered" "Ljava/util/ArrayList;") ∈ lw_all := lw_g (lw_at lw_m4 239 rfl) rfl
theorem q1000 : (Jvm.Cond.fieldLink "Foundrymark" (184 : Nat) "Foundrymark$Order" "stage" "LFoundrymark$Stage;") ∈ lw_all := lw_g (lw_at lw_m5 1 rfl) rfl
theorem q1001 : (Jvm.Cond.fieldLink "Foundrymark" (291 : Nat) "Foundrymark$Order" "pieces" "I") ∈ lw_all := lw_g (lw_at lw_m5 2 rfl) rfl
theorem q1002 : (Jvm.Cond.fieldLink "Foundrymark" (298 : Nat) "Foundrymark$Order" "next" "I") ∈ lw_all := lw_g (lw_at lw_m5 3 rfl) rfl
theorem q1003 : (Jvm.Cond.fieldLink "Foundrymark" (287 : Nat) "Foundrymark$Order" "cost" "J") ∈ lw_all := lw_g (lw_at lw_m5 4 rfl) rfl
theorem q1004 : (Jvm.Cond.fieldLink "Foundrymark" (327 : Nat) "Foundrymark$Order" "finishedAt" "I") ∈ lw_all := lw_g (lw_at lw_m5 5 rfl) rfl
theorem q1005 : (Jvm.Cond.fieldLink "Foundrymark" (414 : Nat) "Foundrymark$Order" "deliveredAt" "I") ∈ lw_all := lw_g (lw_at lw_m5 6 rfl) rfl
theorem q1006 : (Jvm.Cond.fieldLink "Foundrymark" (330 : Nat) "Foundrymark$Order" "lot" "LFoundrymark$Lot;") ∈ lw_all := lw_g (lw_at lw_m5 7 rfl) rfl
theorem q1040 : (Jvm.Cond.instanceMethod ({ cls := "Foundrymark", name := "promise", desc := "(I)Z" } : Jvm.MethodName)) ∈ lw_all := lw_g (lw_at lw_m5 41 rfl) rfl
theorem q1041 : (Jvm.Cond.selects "Foundrymark" ({ cls := "Foundrymark", name := "promise", desc := "(I)Z" } : Jvm.MethodName) ({ cls := "Foundrymark", name := "promise", desc := "(I)Z" } : Jvm.MethodName)) ∈ lw_all := lw_g (lw_at lw_m5 42 rfl) rfl
theorem q1042 : (Jvm.Cond.code ({ cls := "Foundrymark", name := "promise", desc := "(I)Z" } : Jvm.MethodName) prog_1_method_33_code (3 : Nat) (Option.some Jvm.ClassFile.FieldType.boolean)) ∈ lw_all := lw_g (lw_at lw_m5 43 rfl) rfl
theorem q1043 : (Jvm.Cond.methodLink "Foundrymark" (271 : Nat) ({ cls := "Foundrymark", name := "theOrder", desc := "(I)LFoundrymark$Order;" } : Jvm.MethodName)) ∈ lw_all := lw_g (lw_at lw_m5 44 rfl) rfl
theorem q1044 : (Jvm.Cond.privateMethod ({ cls := "Foundrymark", name := "theOrder", desc := "(I)LFoundrymark$Order;" } : Jvm.MethodName)) ∈ lw_tbl := lw_at lw_m5 45 rfl
theorem q1045 : (Jvm.Cond.instanceMethod ({ cls := "Foundrymark", name := "theOrder", desc := "(I)LFoundrymark$Order;" } : Jvm.MethodName)) ∈ lw_all := lw_g (lw_at lw_m5 46 rfl) rfl
theorem q1046 : (Jvm.Cond.code ({ cls := "Foundrymark", name := "theOrder", desc := "(I)LFoundrymark$Order;" } : Jvm.MethodName) prog_1_method_29_code (2 : Nat) (Option.some (Jvm.ClassFile.FieldType.object "Foundrymark$Order"))) ∈ lw_all := lw_g (lw_at lw_m5 47 rfl) rfl
theorem q1047 : (Jvm.Cond.methodLink "Foundrymark" (275 : Nat) ({ cls := "Foundrymark", name := "reserveAll", desc := "(LFoundrymark$Order;)Z" } : Jvm.MethodName)) ∈ lw_all := lw_g (lw_at lw_m5 48 rfl) rfl
theorem q1048 : (Jvm.Cond.privateMethod ({ cls := "Foundrymark", name := "reserveAll", desc := "(LFoundrymark$Order;)Z" } : Jvm.MethodName)) ∈ lw_tbl := lw_at lw_m5 49 rfl
theorem q1049 : (Jvm.Cond.instanceMethod ({ cls := "Foundrymark", name := "reserveAll", desc := "(LFoundrymark$Order;)Z" } : Jvm.MethodName)) ∈ lw_all := lw_g (lw_at lw_m5 50 rfl) rfl
theorem q1050 : (Jvm.Cond.codeWith ({ cls := "Foundrymark", name := "reserveAll", desc := "(LFoundrymark$Order;)Z" } : Jvm.MethodName) prog_1_method_32_code (4 : Nat) (Option.some Jvm.ClassFile.FieldType.boolean) [((0 : Nat), (73 : Nat), (74 : Nat), (249 : Nat))]) ∈ lw_all := lw_g (lw_at lw_m5 51 rfl) rfl
theorem q1051 : (Jvm.Cond.classLink "Foundrymark" (249 : Nat) "Foundrymark$Lack") ∈ lw_all := lw_g (lw_at lw_m5 52 rfl) rfl
theorem q1052 : (Jvm.Cond.methodLink "Foundrymark" (258 : Nat) ({ cls := "Foundrymark$Component", name := "isFor", desc := "(I)Z" } : Jvm.MethodName)) ∈ lw_all := lw_g (lw_at lw_m5 53 rfl) rfl
theorem q1056 : (Jvm.Cond.methodLink "Foundrymark" (267 : Nat) ({ cls := "Foundrymark", name := "reserve", desc := "(LFoundrymark$Order;II)V" } : Jvm.MethodName)) ∈ lw_all := lw_g (lw_at lw_m5 57 rfl) rfl
theorem q1057 : (Jvm.Cond.privateMethod ({ cls := "Foundrymark", name := "reserve", desc := "(LFoundrymark$Order;II)V" } : Jvm.MethodName)) ∈ lw_tbl := lw_at lw_m5 58 rfl
theorem q1058 : (Jvm.Cond.instanceMethod ({ cls := "Foundrymark", name := "reserve", desc := "(LFoundrymark$Order;II)V" } : Jvm.MethodName)) ∈ lw_all := lw_g (lw_at lw_m5 59 rfl) rfl
theorem q1059 : (Jvm.Cond.code ({ cls := "Foundrymark", name := "reserve", desc := "(LFoundrymark$Order;II)V" } : Jvm.MethodName) prog_1_method_31_code (8 : Nat) (Option.none : Option Jvm.ClassFile.FieldType)) ∈ lw_all := lw_g (lw_at lw_m5 60 rfl) rfl
theorem q1060 : (Jvm.Cond.methodLink "Foundrymark" (240 : Nat) ({ cls := "java/lang/Math", name := "min", desc := "(II)I" } : Jvm.MethodName)) ∈ lw_all := lw_g (lw_at lw_m5 61 rfl) rfl
theorem q1062 : (Jvm.Cond.methodLink "Foundrymark" (246 : Nat) ({ cls := "Foundrymark$Taken", name := "<init>", desc := "(LFoundrymark$Lot;I)V" } : Jvm.MethodName)) ∈ lw_all := lw_g (lw_at lw_m5 63 rfl) rfl
theorem q1068 : (Jvm.Cond.fieldLink "Foundrymark" (171 : Nat) "Foundrymark$Taken" "lot" "LFoundrymark$Lot;") ∈ lw_all := lw_g (lw_at lw_m5 69 rfl) rfl
theorem q1071 : (Jvm.Cond.fieldLink "Foundrymark" (178 : Nat) "Foundrymark$Taken" "pieces" "I") ∈ lw_all := lw_g (lw_at lw_m5 72 rfl) rfl
theorem q1073 : (Jvm.Cond.fieldLink "Foundrymark" (286 : Nat) "Foundrymark$Taken" "cost" "J") ∈ lw_all := lw_g (lw_at lw_m5 74 rfl) rfl
theorem q1089 : (Jvm.Cond.methodLink "Foundrymark" (251 : Nat) ({ cls := "Foundrymark$Lack", name := "<init>", desc := "(Ljava/lang/RuntimeException;)V" } : Jvm.MethodName)) ∈ lw_all := lw_g (lw_at lw_m5 90 rfl) rfl
theorem q1104 : (Jvm.Cond.instanceMethod ({ cls := "Foundrymark", name := "withdraw", desc := "(I)I" } : Jvm.MethodName)) ∈ lw_all := lw_g (lw_at lw_m5 105 rfl) rfl
theorem q1105 : (Jvm.Cond.selects "Foundrymark" ({ cls := "Foundrymark", name := "withdraw", desc := "(I)I" } : Jvm.MethodName) ({ cls := "Foundrymark", name := "withdraw", desc := "(I)I" } : Jvm.MethodName)) ∈ lw_all := lw_g (lw_at lw_m5 106 rfl) rfl
theorem q1106 : (Jvm.Cond.code ({ cls := "Foundrymark", name := "withdraw", desc := "(I)I" } : Jvm.MethodName) prog_1_method_34_code (6 : Nat) (Option.some Jvm.ClassFile.FieldType.int)) ∈ lw_all := lw_g (lw_at lw_m5 107 rfl) rfl
theorem q1111 : (Jvm.Cond.instanceMethod ({ cls := "Foundrymark", name := "release", desc := "(I)Z" } : Jvm.MethodName)) ∈ lw_all := lw_g (lw_at lw_m5 112 rfl) rfl
theorem q1112 : (Jvm.Cond.selects "Foundrymark" ({ cls := "Foundrymark", name := "release", desc := "(I)Z" } : Jvm.MethodName) ({ cls := "Foundrymark", name := "release", desc := "(I)Z" } : Jvm.MethodName)) ∈ lw_all := lw_g (lw_at lw_m5 113 rfl) rfl
theorem q1113 : (Jvm.Cond.code ({ cls := "Foundrymark", name := "release", desc := "(I)Z" } : Jvm.MethodName) prog_1_method_36_code (6 : Nat) (Option.some Jvm.ClassFile.FieldType.boolean)) ∈ lw_all := lw_g (lw_at lw_m5 114 rfl) rfl
theorem q1114 : (Jvm.Cond.methodLink "Foundrymark" (288 : Nat) ({ cls := "Foundrymark", name := "give", desc := "(LFoundrymark$Taken;)J" } : Jvm.MethodName)) ∈ lw_all := lw_g (lw_at lw_m5 115 rfl) rfl
theorem q1115 : (Jvm.Cond.static ({ cls := "Foundrymark", name := "give", desc := "(LFoundrymark$Taken;)J" } : Jvm.MethodName)) ∈ lw_all := lw_g (lw_at lw_m5 116 rfl) rfl
theorem q1116 : (Jvm.Cond.codeWith ({ cls := "Foundrymark", name := "give", desc := "(LFoundrymark$Taken;)J" } : Jvm.MethodName) prog_1_method_35_code (2 : Nat) (Option.some Jvm.ClassFile.FieldType.long) [((0 : Nat), (8 : Nat), (11 : Nat), (249 : Nat))]) ∈ lw_all := lw_g (lw_at lw_m5 117 rfl) rfl
theorem q1117 : (Jvm.Cond.methodLink "Foundrymark" (279 : Nat) ({ cls := "Foundrymark$Lot", name := "give", desc := "(LFoundrymark$Taken;)V" } : Jvm.MethodName)) ∈ lw_all := lw_g (lw_at lw_m5 118 rfl) rfl
theorem q1123 : (Jvm.Cond.methodLink "Foundrymark" (283 : Nat) ({ cls := "java/lang/IllegalStateException", name := "<init>", desc := "(Ljava/lang/String;Ljava/lang/Throwable;)V" } : Jvm.MethodName)) ∈ lw_all := lw_g (lw_at lw_m5 124 rfl) rfl
theorem q1130 : (Jvm.Cond.methodLink "Foundrymark" (292 : Nat) ({ cls := "Foundrymark", name := "goOn", desc := "(LFoundrymark$Order;)V" } : Jvm.MethodName)) ∈ lw_all := lw_g (lw_at lw_m5 131 rfl) rfl
theorem q1131 : (Jvm.Cond.privateMethod ({ cls := "Foundrymark", name := "goOn", desc := "(LFoundrymark$Order;)V" } : Jvm.MethodName)) ∈ lw_tbl := lw_at lw_m5 132 rfl
theorem q1132 : (Jvm.Cond.instanceMethod ({ cls := "Foundrymark", name := "goOn", desc := "(LFoundrymark$Order;)V" } : Jvm.MethodName)) ∈ lw_all := lw_g (lw_at lw_m5 133 rfl) rfl
theorem q1133 : (Jvm.Cond.code ({ cls := "Foundrymark", name := "goOn", desc := "(LFoundrymark$Order;)V" } : Jvm.MethodName) prog_1_method_37_code (6 : Nat) (Option.none : Option Jvm.ClassFile.FieldType)) ∈ lw_all := lw_g (lw_at lw_m5 134 rfl) rfl
theorem q1134 : (Jvm.Cond.methodLink "Foundrymark" (300 : Nat) ({ cls := "Foundrymark", name := "finish", desc := "(LFoundrymark$Order;)V" } : Jvm.MethodName)) ∈ lw_all := lw_g (lw_at lw_m5 135 rfl) rfl
theorem q1135 : (Jvm.Cond.privateMethod ({ cls := "Foundrymark", name := "finish", desc := "(LFoundrymark$Order;)V" } : Jvm.MethodName)) ∈ lw_tbl := lw_at lw_m5 136 rfl
theorem q1136 : (Jvm.Cond.instanceMethod ({ cls := "Foundrymark", name := "finish", desc := "(LFoundrymark$Order;)V" } : Jvm.MethodName)) ∈ lw_all := lw_g (lw_at lw_m5 137 rfl) rfl
theorem q1137 : (Jvm.Cond.code ({ cls := "Foundrymark", name := "finish", desc := "(LFoundrymark$Order;)V" } : Jvm.MethodName) prog_1_method_38_code (2 : Nat) (Option.none : Option Jvm.ClassFile.FieldType)) ∈ lw_all := lw_g (lw_at lw_m5 138 rfl) rfl
theorem q1138 : (Jvm.Cond.fieldLink "Foundrymark" (321 : Nat) "Foundrymark$Stage" "FINISHED" "LFoundrymark$Stage;") ∈ lw_all := lw_g (lw_at lw_m5 139 rfl) rfl
theorem q1140 : (Jvm.Cond.fieldLink "Foundrymark" (303 : Nat) "Foundrymark$Stage" "WAITING" "LFoundrymark$Stage;") ∈ lw_all := lw_g (lw_at lw_m5 141 rfl) rfl
theorem q1141 : (Jvm.Cond.methodLink "Foundrymark" (311 : Nat) ({ cls := "Foundrymark$Machine", name := "jobs", desc := "()I" } : Jvm.MethodName)) ∈ lw_all := lw_g (lw_at lw_m5 142 rfl) rfl
theorem q1149 : (Jvm.Cond.methodLink "Foundrymark" (318 : Nat) ({ cls := "java/util/PriorityQueue", name := "add", desc := "(Ljava/lang/Object;)Z" } : Jvm.MethodName)) ∈ lw_all := lw_g (lw_at lw_m5 150 rfl) rfl
theorem q1255 : (Jvm.Cond.methodLink "Foundrymark" (295 : Nat) ({ cls := "Foundrymark", name := "beginAll", desc := "()V" } : Jvm.MethodName)) ∈ lw_all := lw_g (lw_at lw_m6 16 rfl) rfl
theorem q1256 : (Jvm.Cond.privateMethod ({ cls := "Foundrymark", name := "beginAll", desc := "()V" } : Jvm.MethodName)) ∈ lw_tbl := lw_at lw_m6 17 rfl
theorem q1257 : (Jvm.Cond.instanceMethod ({ cls := "Foundrymark", name := "beginAll", desc := "()V" } : Jvm.MethodName)) ∈ lw_all := lw_g (lw_at lw_m6 18 rfl) rfl
theorem q1258 : (Jvm.Cond.code ({ cls := "Foundrymark", name := "beginAll", desc := "()V" } : Jvm.MethodName) prog_1_method_41_code (3 : Nat) (Option.none : Option Jvm.ClassFile.FieldType)) ∈ lw_all := lw_g (lw_at lw_m6 19 rfl) rfl
theorem q1259 : (Jvm.Cond.methodLink "Foundrymark" (384 : Nat) ({ cls := "Foundrymark$Machine", name := "isFree", desc := "()Z" } : Jvm.MethodName)) ∈ lw_all := lw_g (lw_at lw_m6 20 rfl) rfl
theorem q1263 : (Jvm.Cond.methodLink "Foundrymark" (387 : Nat) ({ cls := "java/util/PriorityQueue", name := "isEmpty", desc := "()Z" } : Jvm.MethodName)) ∈ lw_all := lw_g (lw_at lw_m6 24 rfl) rfl
theorem q1274 : (Jvm.Cond.methodLink "Foundrymark" (390 : Nat) ({ cls := "Foundrymark", name := "begin", desc := "(LFoundrymark$Machine;)V" } : Jvm.MethodName)) ∈ lw_all := lw_g (lw_at lw_m6 35 rfl) rfl
theorem q1275 : (Jvm.Cond.privateMethod ({ cls := "Foundrymark", name := "begin", desc := "(LFoundrymark$Machine;)V" } : Jvm.MethodName)) ∈ lw_tbl := lw_at lw_m6 36 rfl
theorem q1276 : (Jvm.Cond.instanceMethod ({ cls := "Foundrymark", name := "begin", desc := "(LFoundrymark$Machine;)V" } : Jvm.MethodName)) ∈ lw_all := lw_g (lw_at lw_m6 37 rfl) rfl
theorem q1277 : (Jvm.Cond.code ({ cls := "Foundrymark", name := "begin", desc := "(LFoundrymark$Machine;)V" } : Jvm.MethodName) prog_1_method_40_code (7 : Nat) (Option.none : Option Jvm.ClassFile.FieldType)) ∈ lw_all := lw_g (lw_at lw_m6 38 rfl) rfl
theorem q1278 : (Jvm.Cond.methodLink "Foundrymark" (359 : Nat) ({ cls := "java/util/PriorityQueue", name := "poll", desc := "()Ljava/lang/Object;" } : Jvm.MethodName)) ∈ lw_all := lw_g (lw_at lw_m6 39 rfl) rfl
theorem q1288 : (Jvm.Cond.fieldLink "Foundrymark" (362 : Nat) "Foundrymark$Stage" "WORKING" "LFoundrymark$Stage;") ∈ lw_all := lw_g (lw_at lw_m6 49 rfl) rfl
theorem q1289 : (Jvm.Cond.methodLink "Foundrymark" (375 : Nat) ({ cls := "java/lang/Math", name := "max", desc := "(II)I" } : Jvm.MethodName)) ∈ lw_all := lw_g (lw_at lw_m6 50 rfl) rfl
theorem q1294 : (Jvm.Cond.instanceMethod ({ cls := "Foundrymark", name := "scrap", desc := "(II)I" } : Jvm.MethodName)) ∈ lw_all := lw_g (lw_at lw_m6 55 rfl) rfl
theorem q1295 : (Jvm.Cond.selects "Foundrymark" ({ cls := "Foundrymark", name := "scrap", desc := "(II)I" } : Jvm.MethodName) ({ cls := "Foundrymark", name := "scrap", desc := "(II)I" } : Jvm.MethodName)) ∈ lw_all := lw_g (lw_at lw_m6 56 rfl) rfl
theorem q1296 : (Jvm.Cond.code ({ cls := "Foundrymark", name := "scrap", desc := "(II)I" } : Jvm.MethodName) prog_1_method_42_code (4 : Nat) (Option.some Jvm.ClassFile.FieldType.int)) ∈ lw_all := lw_g (lw_at lw_m6 57 rfl) rfl
theorem q1301 : (Jvm.Cond.instanceMethod ({ cls := "Foundrymark", name := "advance", desc := "(I)I" } : Jvm.MethodName)) ∈ lw_all := lw_g (lw_at lw_m6 62 rfl) rfl
theorem q1302 : (Jvm.Cond.selects "Foundrymark" ({ cls := "Foundrymark", name := "advance", desc := "(I)I" } : Jvm.MethodName) ({ cls := "Foundrymark", name := "advance", desc := "(I)I" } : Jvm.MethodName)) ∈ lw_all := lw_g (lw_at lw_m6 63 rfl) rfl
theorem q1303 : (Jvm.Cond.code ({ cls := "Foundrymark", name := "advance", desc := "(I)I" } : Jvm.MethodName) prog_1_method_43_code (5 : Nat) (Option.some Jvm.ClassFile.FieldType.int)) ∈ lw_all := lw_g (lw_at lw_m6 64 rfl) rfl
theorem q1304 : (Jvm.Cond.methodLink "Foundrymark" (397 : Nat) ({ cls := "Foundrymark$Machine", name := "endsAt", desc := "(I)Z" } : Jvm.MethodName)) ∈ lw_all := lw_g (lw_at lw_m6 65 rfl) rfl
theorem q1309 : (Jvm.Cond.methodLink "Foundrymark" (400 : Nat) ({ cls := "Foundrymark", name := "end", desc := "(LFoundrymark$Machine;)V" } : Jvm.MethodName)) ∈ lw_all := lw_g (lw_at lw_m6 70 rfl) rfl
theorem q1310 : (Jvm.Cond.privateMethod ({ cls := "Foundrymark", name := "end", desc := "(LFoundrymark$Machine;)V" } : Jvm.MethodName)) ∈ lw_tbl := lw_at lw_m6 71 rfl
theorem q1311 : (Jvm.Cond.instanceMethod ({ cls := "Foundrymark", name := "end", desc := "(LFoundrymark$Machine;)V" } : Jvm.MethodName)) ∈ lw_all := lw_g (lw_at lw_m6 72 rfl) rfl
theorem q1312 : (Jvm.Cond.code ({ cls := "Foundrymark", name := "end", desc := "(LFoundrymark$Machine;)V" } : Jvm.MethodName) prog_1_method_39_code (3 : Nat) (Option.none : Option Jvm.ClassFile.FieldType)) ∈ lw_all := lw_g (lw_at lw_m6 73 rfl) rfl
theorem q1317 : (Jvm.Cond.instanceMethod ({ cls := "Foundrymark", name := "deliver", desc := "(I)Z" } : Jvm.MethodName)) ∈ lw_all := lw_g (lw_at lw_m6 78 rfl) rfl
theorem q1318 : (Jvm.Cond.selects "Foundrymark" ({ cls := "Foundrymark", name := "deliver", desc := "(I)Z" } : Jvm.MethodName) ({ cls := "Foundrymark", name := "deliver", desc := "(I)Z" } : Jvm.MethodName)) ∈ lw_all := lw_g (lw_at lw_m6 79 rfl) rfl
theorem q1319 : (Jvm.Cond.code ({ cls := "Foundrymark", name := "deliver", desc := "(I)Z" } : Jvm.MethodName) prog_1_method_45_code (8 : Nat) (Option.some Jvm.ClassFile.FieldType.boolean)) ∈ lw_all := lw_g (lw_at lw_m6 80 rfl) rfl
theorem q1320 : (Jvm.Cond.methodLink "Foundrymark" (403 : Nat) ({ cls := "Foundrymark", name := "plan", desc := "(Ljava/util/ArrayList;LFoundrymark$Lot;I)I" } : Jvm.MethodName)) ∈ lw_all := lw_g (lw_at lw_m6 81 rfl) rfl
theorem q1321 : (Jvm.Cond.static ({ cls := "Foundrymark", name := "plan", desc := "(Ljava/util/ArrayList;LFoundrymark$Lot;I)I" } : Jvm.MethodName)) ∈ lw_all := lw_g (lw_at lw_m6 82 rfl) rfl
theorem q1322 : (Jvm.Cond.code ({ cls := "Foundrymark", name := "plan", desc := "(Ljava/util/ArrayList;LFoundrymark$Lot;I)I" } : Jvm.MethodName) prog_1_method_44_code (4 : Nat) (Option.some Jvm.ClassFile.FieldType.int)) ∈ lw_all := lw_g (lw_at lw_m6 83 rfl) rfl
theorem q1323 : (Jvm.Cond.methodLink "Foundrymark" (410 : Nat) ({ cls := "java/util/ArrayList", name := "addAll", desc := "(Ljava/util/Collection;)Z" } : Jvm.MethodName)) ∈ lw_all := lw_g (lw_at lw_m6 84 rfl) rfl
theorem q1344 : (Jvm.Cond.fieldLink "Foundrymark" (417 : Nat) "Foundrymark$Stage" "DELIVERED" "LFoundrymark$Stage;") ∈ lw_all := lw_g (lw_at lw_m6 105 rfl) rfl
theorem q1350 : (Jvm.Cond.instanceMethod ({ cls := "Foundrymark", name := "stateOf", desc := "(I)C" } : Jvm.MethodName)) ∈ lw_all := lw_g (lw_at lw_m6 111 rfl) rfl
theorem q1351 : (Jvm.Cond.selects "Foundrymark" ({ cls := "Foundrymark", name := "stateOf", desc := "(I)C" } : Jvm.MethodName) ({ cls := "Foundrymark", name := "stateOf", desc := "(I)C" } : Jvm.MethodName)) ∈ lw_all := lw_g (lw_at lw_m6 112 rfl) rfl
theorem q1352 : (Jvm.Cond.code ({ cls := "Foundrymark", name := "stateOf", desc := "(I)C" } : Jvm.MethodName) prog_1_method_46_code (2 : Nat) (Option.some Jvm.ClassFile.FieldType.char)) ∈ lw_all := lw_g (lw_at lw_m6 113 rfl) rfl
theorem q1358 : (Jvm.Cond.instanceMethod ({ cls := "Foundrymark", name := "lotOf", desc := "(I)I" } : Jvm.MethodName)) ∈ lw_all := lw_g (lw_at lw_m6 119 rfl) rfl
theorem q1359 : (Jvm.Cond.selects "Foundrymark" ({ cls := "Foundrymark", name := "lotOf", desc := "(I)I" } : Jvm.MethodName) ({ cls := "Foundrymark", name := "lotOf", desc := "(I)I" } : Jvm.MethodName)) ∈ lw_all := lw_g (lw_at lw_m6 120 rfl) rfl
theorem q1360 : (Jvm.Cond.code ({ cls := "Foundrymark", name := "lotOf", desc := "(I)I" } : Jvm.MethodName) prog_1_method_47_code (3 : Nat) (Option.some Jvm.ClassFile.FieldType.int)) ∈ lw_all := lw_g (lw_at lw_m6 121 rfl) rfl
theorem q1361 : (Jvm.Cond.methodLink "Foundrymark" (421 : Nat) ({ cls := "Foundrymark", name := "requireElement", desc := "(Z)V" } : Jvm.MethodName)) ∈ lw_all := lw_g (lw_at lw_m6 122 rfl) rfl
theorem q1362 : (Jvm.Cond.static ({ cls := "Foundrymark", name := "requireElement", desc := "(Z)V" } : Jvm.MethodName)) ∈ lw_all := lw_g (lw_at lw_m6 123 rfl) rfl
theorem q1363 : (Jvm.Cond.code ({ cls := "Foundrymark", name := "requireElement", desc := "(Z)V" } : Jvm.MethodName) prog_1_method_6_code (1 : Nat) (Option.none : Option Jvm.ClassFile.FieldType)) ∈ lw_all := lw_g (lw_at lw_m6 124 rfl) rfl
theorem q1364 : (Jvm.Cond.classLink "Foundrymark" (16 : Nat) "java/util/NoSuchElementException") ∈ lw_all := lw_g (lw_at lw_m6 125 rfl) rfl
theorem q1365 : (Jvm.Cond.methodLink "Foundrymark" (18 : Nat) ({ cls := "java/util/NoSuchElementException", name := "<init>", desc := "()V" } : Jvm.MethodName)) ∈ lw_all := lw_g (lw_at lw_m6 126 rfl) rfl
theorem q1370 : (Jvm.Cond.instanceMethod ({ cls := "Foundrymark", name := "finishedAt", desc := "(I)I" } : Jvm.MethodName)) ∈ lw_all := lw_g (lw_at lw_m6 131 rfl) rfl
theorem q1371 : (Jvm.Cond.selects "Foundrymark" ({ cls := "Foundrymark", name := "finishedAt", desc := "(I)I" } : Jvm.MethodName) ({ cls := "Foundrymark", name := "finishedAt", desc := "(I)I" } : Jvm.MethodName)) ∈ lw_all := lw_g (lw_at lw_m6 132 rfl) rfl
theorem q1372 : (Jvm.Cond.code ({ cls := "Foundrymark", name := "finishedAt", desc := "(I)I" } : Jvm.MethodName) prog_1_method_48_code (3 : Nat) (Option.some Jvm.ClassFile.FieldType.int)) ∈ lw_all := lw_g (lw_at lw_m6 133 rfl) rfl
theorem q1377 : (Jvm.Cond.instanceMethod ({ cls := "Foundrymark", name := "machineIs", desc := "(I)C" } : Jvm.MethodName)) ∈ lw_all := lw_g (lw_at lw_m6 138 rfl) rfl
theorem q1378 : (Jvm.Cond.selects "Foundrymark" ({ cls := "Foundrymark", name := "machineIs", desc := "(I)C" } : Jvm.MethodName) ({ cls := "Foundrymark", name := "machineIs", desc := "(I)C" } : Jvm.MethodName)) ∈ lw_all := lw_g (lw_at lw_m6 139 rfl) rfl
theorem q1379 : (Jvm.Cond.code ({ cls := "Foundrymark", name := "machineIs", desc := "(I)C" } : Jvm.MethodName) prog_1_method_49_code (3 : Nat) (Option.some Jvm.ClassFile.FieldType.char)) ∈ lw_all := lw_g (lw_at lw_m6 140 rfl) rfl
theorem q1384 : (Jvm.Cond.instanceMethod ({ cls := "Foundrymark", name := "wear", desc := "(I)I" } : Jvm.MethodName)) ∈ lw_all := lw_g (lw_at lw_m6 145 rfl) rfl
theorem q1385 : (Jvm.Cond.selects "Foundrymark" ({ cls := "Foundrymark", name := "wear", desc := "(I)I" } : Jvm.MethodName) ({ cls := "Foundrymark", name := "wear", desc := "(I)I" } : Jvm.MethodName)) ∈ lw_all := lw_g (lw_at lw_m6 146 rfl) rfl
theorem q1386 : (Jvm.Cond.code ({ cls := "Foundrymark", name := "wear", desc := "(I)I" } : Jvm.MethodName) prog_1_method_50_code (2 : Nat) (Option.some Jvm.ClassFile.FieldType.int)) ∈ lw_all := lw_g (lw_at lw_m6 147 rfl) rfl
theorem q1391 : (Jvm.Cond.instanceMethod ({ cls := "Foundrymark", name := "waiting", desc := "(I)I" } : Jvm.MethodName)) ∈ lw_all := lw_g (lw_at lw_m6 152 rfl) rfl
theorem q1392 : (Jvm.Cond.selects "Foundrymark" ({ cls := "Foundrymark", name := "waiting", desc := "(I)I" } : Jvm.MethodName) ({ cls := "Foundrymark", name := "waiting", desc := "(I)I" } : Jvm.MethodName)) ∈ lw_all := lw_g (lw_at lw_m6 153 rfl) rfl
theorem q1393 : (Jvm.Cond.code ({ cls := "Foundrymark", name := "waiting", desc := "(I)I" } : Jvm.MethodName) prog_1_method_51_code (2 : Nat) (Option.some Jvm.ClassFile.FieldType.int)) ∈ lw_all := lw_g (lw_at lw_m6 154 rfl) rfl
theorem q1394 : (Jvm.Cond.methodLink "Foundrymark" (424 : Nat) ({ cls := "java/util/PriorityQueue", name := "size", desc := "()I" } : Jvm.MethodName)) ∈ lw_all := lw_g (lw_at lw_m6 155 rfl) rfl
theorem q1399 : (Jvm.Cond.instanceMethod ({ cls := "Foundrymark", name := "isIn", desc := "(II)Z" } : Jvm.MethodName)) ∈ lw_all := lw_g (lw_at lw_m6 160 rfl) rfl
theorem q1400 : (Jvm.Cond.selects "Foundrymark" ({ cls := "Foundrymark", name := "isIn", desc := "(II)Z" } : Jvm.MethodName) ({ cls := "Foundrymark", name := "isIn", desc := "(II)Z" } : Jvm.MethodName)) ∈ lw_all := lw_g (lw_at lw_m6 161 rfl) rfl
theorem q1401 : (Jvm.Cond.code ({ cls := "Foundrymark", name := "isIn", desc := "(II)Z" } : Jvm.MethodName) prog_1_method_52_code (4 : Nat) (Option.some Jvm.ClassFile.FieldType.boolean)) ∈ lw_all := lw_g (lw_at lw_m6 162 rfl) rfl
theorem q1410 : (Jvm.Cond.instanceMethod ({ cls := "Foundrymark", name := "lotsIn", desc := "(I)I" } : Jvm.MethodName)) ∈ lw_all := lw_g (lw_at lw_m6 171 rfl) rfl
theorem q1411 : (Jvm.Cond.selects "Foundrymark" ({ cls := "Foundrymark", name := "lotsIn", desc := "(I)I" } : Jvm.MethodName) ({ cls := "Foundrymark", name := "lotsIn", desc := "(I)I" } : Jvm.MethodName)) ∈ lw_all := lw_g (lw_at lw_m6 172 rfl) rfl
theorem q1412 : (Jvm.Cond.code ({ cls := "Foundrymark", name := "lotsIn", desc := "(I)I" } : Jvm.MethodName) prog_1_method_57_code (2 : Nat) (Option.some Jvm.ClassFile.FieldType.int)) ∈ lw_all := lw_g (lw_at lw_m6 173 rfl) rfl
theorem q1417 : (Jvm.Cond.instanceMethod ({ cls := "Foundrymark", name := "deliveredCost", desc := "(I)J" } : Jvm.MethodName)) ∈ lw_all := lw_g (lw_at lw_m6 178 rfl) rfl
theorem q1418 : (Jvm.Cond.selects "Foundrymark" ({ cls := "Foundrymark", name := "deliveredCost", desc := "(I)J" } : Jvm.MethodName) ({ cls := "Foundrymark", name := "deliveredCost", desc := "(I)J" } : Jvm.MethodName)) ∈ lw_all := lw_g (lw_at lw_m6 179 rfl) rfl
theorem q1419 : (Jvm.Cond.code ({ cls := "Foundrymark", name := "deliveredCost", desc := "(I)J" } : Jvm.MethodName) prog_1_method_59_code (3 : Nat) (Option.some Jvm.ClassFile.FieldType.long)) ∈ lw_all := lw_g (lw_at lw_m6 180 rfl) rfl
theorem q1438 : (Jvm.Cond.instanceMethod ({ cls := "Foundrymark", name := "inTimeShare", desc := "()F" } : Jvm.MethodName)) ∈ lw_all := lw_g (lw_at lw_m6 199 rfl) rfl
theorem q1439 : (Jvm.Cond.selects "Foundrymark" ({ cls := "Foundrymark", name := "inTimeShare", desc := "()F" } : Jvm.MethodName) ({ cls := "Foundrymark", name := "inTimeShare", desc := "()F" } : Jvm.MethodName)) ∈ lw_all := lw_g (lw_at lw_m6 200 rfl) rfl
theorem q1440 : (Jvm.Cond.code ({ cls := "Foundrymark", name := "inTimeShare", desc := "()F" } : Jvm.MethodName) prog_1_method_60_code (6 : Nat) (Option.some Jvm.ClassFile.FieldType.float)) ∈ lw_all := lw_g (lw_at lw_m6 201 rfl) rfl
theorem q1441 : (Jvm.Cond.classLink "Foundrymark" (451 : Nat) "java/lang/ArithmeticException") ∈ lw_all := lw_g (lw_at lw_m6 202 rfl) rfl
theorem q1442 : (Jvm.Cond.methodLink "Foundrymark" (453 : Nat) ({ cls := "java/lang/ArithmeticException", name := "<init>", desc := "()V" } : Jvm.MethodName)) ∈ lw_all := lw_g (lw_at lw_m6 203 rfl) rfl
theorem q1450 : (Jvm.Cond.instanceMethod ({ cls := "Foundrymark", name := "meanBusy", desc := "()D" } : Jvm.MethodName)) ∈ lw_all := lw_g (lw_at lw_m6 211 rfl) rfl
theorem q1451 : (Jvm.Cond.selects "Foundrymark" ({ cls := "Foundrymark", name := "meanBusy", desc := "()D" } : Jvm.MethodName) ({ cls := "Foundrymark", name := "meanBusy", desc := "()D" } : Jvm.MethodName)) ∈ lw_all := lw_g (lw_at lw_m6 212 rfl) rfl
theorem q1452 : (Jvm.Cond.code ({ cls := "Foundrymark", name := "meanBusy", desc := "()D" } : Jvm.MethodName) prog_1_method_61_code (5 : Nat) (Option.some Jvm.ClassFile.FieldType.double)) ∈ lw_all := lw_g (lw_at lw_m6 213 rfl) rfl
theorem q1453 : (Jvm.Cond.methodLink "Foundrymark" (454 : Nat) ({ cls := "java/util/ArrayList", name := "isEmpty", desc := "()Z" } : Jvm.MethodName)) ∈ lw_all := lw_g (lw_at lw_m6 214 rfl) rfl
theorem q1983 : (Jvm.Cond.castable "Foundrymark" "java/lang/Object") ∈ lw_tbl := lw_at lw_m9 24 rfl
theorem q2030 : (Jvm.Cond.fieldLinkNest "Foundrymark" (144 : Nat) "Foundrymark$Rule" "letter" "C" "Foundrymark") ∈ lw_tbl := lw_at lw_m9 71 rfl
theorem q2032 : (Jvm.Cond.fieldLinkNest "Foundrymark" (420 : Nat) "Foundrymark$Stage" "letter" "C" "Foundrymark") ∈ lw_tbl := lw_at lw_m9 73 rfl
theorem in_X1 : ∀ w ∈ wsX10, w ∈ lw_all := lw_in wsX10 [156, 158, 160, 162, 164, 166, 168, 170, 172, 174] (by decide +kernel) (by decide +kernel)
