/-! Foundrymark$Supplier -/
set_option maxRecDepth 100000
def RX2 : String := "Foundrymark$Supplier"
def TX2 : u_T := fun k => match k with
  | 0 => ("Foundrymark$Supplier", "rule", "LFoundrymark$Rule;", false)
  | _ => ("Foundrymark$Supplier", "refused", "Ljava/util/ArrayList;", true)
def tyX2 : Nat → FieldType := fun k => match k with
  | 0 => .object "Foundrymark$Rule"
  | _ => .object "java/util/ArrayList"
abbrev wsX20 : List Cond := u_ws RX2 TX2 2
theorem nmX2 : ∀ a, a < 2 → ∀ b, b < 2 → a ≠ b → (TX2 a).2.1 ≠ (TX2 b).2.1 := by decide +kernel
theorem tyX2_ok : ∀ k, k < 2 → parseFieldDescriptor (TX2 k).2.2.1 = some (tyX2 k) := by decide +kernel
abbrev cX2_init : ByteArray := prog_16_method_1_code
def yX2_init : MethodName := ⟨RX2, "<init>", "()V"⟩
def dkwX2_init_0 : List UInt8 := [42, 183, 0, 1, 42, 178, 0, 7, 181, 0, 13, 42, 187, 0, 18, 89, 183, 0, 20, 181, 0, 21, 177]
abbrev dktX2_init_0 : List UInt8 := dkwX2_init_0 ++ []
theorem dksX2_init_0 : cX2_init.data.toList.drop 0 = dktX2_init_0 := by decide +kernel
theorem dX2_init_0 : decode cX2_init 0 = .ok (.aload_n 0, 1) := dk_42 (dk_at dksX2_init_0 0 rfl rfl)
theorem dX2_init_1 : decode cX2_init 1 = .ok (.invokespecial 1, 3) := dk_183 0 1 (dk_at dksX2_init_0 1 rfl rfl)
theorem dX2_init_4 : decode cX2_init 4 = .ok (.aload_n 0, 1) := dk_42 (dk_at dksX2_init_0 4 rfl rfl)
theorem dX2_init_5 : decode cX2_init 5 = .ok (.getstatic 7, 3) := dk_178 0 7 (dk_at dksX2_init_0 5 rfl rfl)
theorem dX2_init_8 : decode cX2_init 8 = .ok (.putfield 13, 3) := dk_181 0 13 (dk_at dksX2_init_0 8 rfl rfl)
theorem dX2_init_11 : decode cX2_init 11 = .ok (.aload_n 0, 1) := dk_42 (dk_at dksX2_init_0 11 rfl rfl)
theorem dX2_init_12 : decode cX2_init 12 = .ok (.new 18, 3) := dk_187 0 18 (dk_at dksX2_init_0 12 rfl rfl)
theorem dX2_init_15 : decode cX2_init 15 = .ok (.dup, 1) := dk_89 (dk_at dksX2_init_0 15 rfl rfl)
theorem dX2_init_16 : decode cX2_init 16 = .ok (.invokespecial 20, 3) := dk_183 0 20 (dk_at dksX2_init_0 16 rfl rfl)
theorem dX2_init_19 : decode cX2_init 19 = .ok (.putfield 21, 3) := dk_181 0 21 (dk_at dksX2_init_0 19 rfl rfl)
theorem dX2_init_22 : decode cX2_init 22 = .ok (.return_, 1) := dk_177 (dk_at dksX2_init_0 22 rfl rfl)
abbrev cX2_refuses : ByteArray := prog_16_method_2_code
def yX2_refuses : MethodName := ⟨RX2, "refuses", "(I)Z"⟩
def dkwX2_refuses_2 : List UInt8 := [165, 0, 15, 42, 45, 181, 0, 13, 42, 180, 0, 21, 182, 0, 43, 28, 172]
abbrev dktX2_refuses_2 : List UInt8 := dkwX2_refuses_2 ++ []
def dkwX2_refuses_1 : List UInt8 := [184, 0, 29, 182, 0, 35, 87, 42, 180, 0, 13, 42, 180, 0, 21, 182, 0, 39, 78, 45, 42, 180, 0, 13]
abbrev dktX2_refuses_1 : List UInt8 := dkwX2_refuses_1 ++ dktX2_refuses_2
def dkwX2_refuses_0 : List UInt8 := [27, 42, 180, 0, 13, 180, 0, 25, 164, 0, 7, 4, 167, 0, 4, 3, 61, 42, 180, 0, 21, 28]
abbrev dktX2_refuses_0 : List UInt8 := dkwX2_refuses_0 ++ dktX2_refuses_1
theorem dksX2_refuses_0 : cX2_refuses.data.toList.drop 0 = dktX2_refuses_0 := by decide +kernel
theorem dksX2_refuses_1 : cX2_refuses.data.toList.drop 22 = dktX2_refuses_1 := dk_seg dksX2_refuses_0 22 rfl rfl
theorem dksX2_refuses_2 : cX2_refuses.data.toList.drop 46 = dktX2_refuses_2 := dk_seg dksX2_refuses_1 24 rfl rfl
theorem dX2_refuses_0 : decode cX2_refuses 0 = .ok (.iload_n 1, 1) := dk_27 (dk_at dksX2_refuses_0 0 rfl rfl)
theorem dX2_refuses_1 : decode cX2_refuses 1 = .ok (.aload_n 0, 1) := dk_42 (dk_at dksX2_refuses_0 1 rfl rfl)
theorem dX2_refuses_2 : decode cX2_refuses 2 = .ok (.getfield 13, 3) := dk_180 0 13 (dk_at dksX2_refuses_0 2 rfl rfl)
theorem dX2_refuses_5 : decode cX2_refuses 5 = .ok (.getfield 25, 3) := dk_180 0 25 (dk_at dksX2_refuses_0 5 rfl rfl)
theorem dX2_refuses_8 : decode cX2_refuses 8 = .ok (.if_icmp .le 7, 3) := dk_164 0 7 (dk_at dksX2_refuses_0 8 rfl rfl)
theorem dX2_refuses_11 : decode cX2_refuses 11 = .ok (.iconst 1, 1) := dk_4 (dk_at dksX2_refuses_0 11 rfl rfl)
theorem dX2_refuses_12 : decode cX2_refuses 12 = .ok (.goto 4, 3) := dk_167 0 4 (dk_at dksX2_refuses_0 12 rfl rfl)
theorem dX2_refuses_15 : decode cX2_refuses 15 = .ok (.iconst 0, 1) := dk_3 (dk_at dksX2_refuses_0 15 rfl rfl)
theorem dX2_refuses_16 : decode cX2_refuses 16 = .ok (.istore_n 2, 1) := dk_61 (dk_at dksX2_refuses_0 16 rfl rfl)
theorem dX2_refuses_17 : decode cX2_refuses 17 = .ok (.aload_n 0, 1) := dk_42 (dk_at dksX2_refuses_0 17 rfl rfl)
theorem dX2_refuses_18 : decode cX2_refuses 18 = .ok (.getfield 21, 3) := dk_180 0 21 (dk_at dksX2_refuses_0 18 rfl rfl)
theorem dX2_refuses_21 : decode cX2_refuses 21 = .ok (.iload_n 2, 1) := dk_28 (dk_at dksX2_refuses_0 21 rfl rfl)
theorem dX2_refuses_22 : decode cX2_refuses 22 = .ok (.invokestatic 29, 3) := dk_184 0 29 (dk_at dksX2_refuses_1 0 rfl rfl)
theorem dX2_refuses_25 : decode cX2_refuses 25 = .ok (.invokevirtual 35, 3) := dk_182 0 35 (dk_at dksX2_refuses_1 3 rfl rfl)
theorem dX2_refuses_28 : decode cX2_refuses 28 = .ok (.pop, 1) := dk_87 (dk_at dksX2_refuses_1 6 rfl rfl)
theorem dX2_refuses_29 : decode cX2_refuses 29 = .ok (.aload_n 0, 1) := dk_42 (dk_at dksX2_refuses_1 7 rfl rfl)
theorem dX2_refuses_30 : decode cX2_refuses 30 = .ok (.getfield 13, 3) := dk_180 0 13 (dk_at dksX2_refuses_1 8 rfl rfl)
theorem dX2_refuses_33 : decode cX2_refuses 33 = .ok (.aload_n 0, 1) := dk_42 (dk_at dksX2_refuses_1 11 rfl rfl)
theorem dX2_refuses_34 : decode cX2_refuses 34 = .ok (.getfield 21, 3) := dk_180 0 21 (dk_at dksX2_refuses_1 12 rfl rfl)
theorem dX2_refuses_37 : decode cX2_refuses 37 = .ok (.invokevirtual 39, 3) := dk_182 0 39 (dk_at dksX2_refuses_1 15 rfl rfl)
theorem dX2_refuses_40 : decode cX2_refuses 40 = .ok (.astore_n 3, 1) := dk_78 (dk_at dksX2_refuses_1 18 rfl rfl)
theorem dX2_refuses_41 : decode cX2_refuses 41 = .ok (.aload_n 3, 1) := dk_45 (dk_at dksX2_refuses_1 19 rfl rfl)
theorem dX2_refuses_42 : decode cX2_refuses 42 = .ok (.aload_n 0, 1) := dk_42 (dk_at dksX2_refuses_1 20 rfl rfl)
theorem dX2_refuses_43 : decode cX2_refuses 43 = .ok (.getfield 13, 3) := dk_180 0 13 (dk_at dksX2_refuses_1 21 rfl rfl)
theorem dX2_refuses_46 : decode cX2_refuses 46 = .ok (.if_acmp .eq 15, 3) := dk_165 0 15 (dk_at dksX2_refuses_2 0 rfl rfl)
theorem dX2_refuses_49 : decode cX2_refuses 49 = .ok (.aload_n 0, 1) := dk_42 (dk_at dksX2_refuses_2 3 rfl rfl)
theorem dX2_refuses_50 : decode cX2_refuses 50 = .ok (.aload_n 3, 1) := dk_45 (dk_at dksX2_refuses_2 4 rfl rfl)
theorem dX2_refuses_51 : decode cX2_refuses 51 = .ok (.putfield 13, 3) := dk_181 0 13 (dk_at dksX2_refuses_2 5 rfl rfl)
theorem dX2_refuses_54 : decode cX2_refuses 54 = .ok (.aload_n 0, 1) := dk_42 (dk_at dksX2_refuses_2 8 rfl rfl)
theorem dX2_refuses_55 : decode cX2_refuses 55 = .ok (.getfield 21, 3) := dk_180 0 21 (dk_at dksX2_refuses_2 9 rfl rfl)
theorem dX2_refuses_58 : decode cX2_refuses 58 = .ok (.invokevirtual 43, 3) := dk_182 0 43 (dk_at dksX2_refuses_2 12 rfl rfl)
theorem dX2_refuses_61 : decode cX2_refuses 61 = .ok (.iload_n 2, 1) := dk_28 (dk_at dksX2_refuses_2 15 rfl rfl)
theorem dX2_refuses_62 : decode cX2_refuses 62 = .ok (.ireturn, 1) := dk_172 (dk_at dksX2_refuses_2 16 rfl rfl)
theorem q44 : (Jvm.Cond.initialized "Foundrymark$Supplier") ∈ lw_all := lw_g (lw_at lw_m1 5 rfl) rfl
theorem q129 : (Jvm.Cond.instantiable "Foundrymark$Supplier" (2 : Nat)) ∈ lw_all := lw_g (lw_at lw_m1 90 rfl) rfl
theorem q131 : (Jvm.Cond.instanceMethod ({ cls := "Foundrymark$Supplier", name := "<init>", desc := "()V" } : Jvm.MethodName)) ∈ lw_all := lw_g (lw_at lw_m1 92 rfl) rfl
theorem q132 : (Jvm.Cond.code ({ cls := "Foundrymark$Supplier", name := "<init>", desc := "()V" } : Jvm.MethodName) prog_16_method_1_code (1 : Nat) (Option.none : Option Jvm.ClassFile.FieldType)) ∈ lw_all := lw_g (lw_at lw_m1 93 rfl) rfl
theorem q133 : (Jvm.Cond.methodLink "Foundrymark$Supplier" (1 : Nat) ({ cls := "java/lang/Object", name := "<init>", desc := "()V" } : Jvm.MethodName)) ∈ lw_all := lw_g (lw_at lw_m1 94 rfl) rfl
theorem q134 : (Jvm.Cond.fieldLink "Foundrymark$Supplier" (7 : Nat) "Foundrymark$Rule" "NORMAL" "LFoundrymark$Rule;") ∈ lw_all := lw_g (lw_at lw_m1 95 rfl) rfl
theorem q136 : (Jvm.Cond.classLink "Foundrymark$Supplier" (18 : Nat) "java/util/ArrayList") ∈ lw_all := lw_g (lw_at lw_m1 97 rfl) rfl
theorem q137 : (Jvm.Cond.methodLink "Foundrymark$Supplier" (20 : Nat) ({ cls := "java/util/ArrayList", name := "<init>", desc := "()V" } : Jvm.MethodName)) ∈ lw_all := lw_g (lw_at lw_m1 98 rfl) rfl
theorem q138 : (Jvm.Cond.fieldLink "Foundrymark$Supplier" (13 : Nat) "Foundrymark$Supplier" "rule" "LFoundrymark$Rule;") ∈ lw_all := lw_g (lw_at lw_m1 99 rfl) rfl
theorem q140 : (Jvm.Cond.fieldLink "Foundrymark$Supplier" (21 : Nat) "Foundrymark$Supplier" "refused" "Ljava/util/ArrayList;") ∈ lw_all := lw_g (lw_at lw_m1 101 rfl) rfl
theorem q141 : (Jvm.Cond.lays "Foundrymark$Supplier" "Foundrymark$Supplier" "rule" "LFoundrymark$Rule;") ∈ lw_all := lw_g (lw_at lw_m1 102 rfl) rfl
theorem q142 : (Jvm.Cond.soleField "Foundrymark$Supplier" "rule") ∈ lw_all := lw_g (lw_at lw_m1 103 rfl) rfl
theorem q143 : (Jvm.Cond.laysFinal "Foundrymark$Supplier" "Foundrymark$Supplier" "refused" "Ljava/util/ArrayList;") ∈ lw_all := lw_g (lw_at lw_m1 104 rfl) rfl
theorem q144 : (Jvm.Cond.soleField "Foundrymark$Supplier" "refused") ∈ lw_all := lw_g (lw_at lw_m1 105 rfl) rfl
theorem q145 : (Jvm.Cond.superclass "Foundrymark$Supplier" "java/lang/Object") ∈ lw_all := lw_g (lw_at lw_m1 106 rfl) rfl
theorem q570 : (Jvm.Cond.selects "Foundrymark$Supplier" ({ cls := "java/lang/Object", name := "getClass", desc := "()Ljava/lang/Class;" } : Jvm.MethodName) ({ cls := "java/lang/Object", name := "getClass", desc := "()Ljava/lang/Class;" } : Jvm.MethodName)) ∈ lw_all := lw_g (lw_at lw_m3 51 rfl) rfl
theorem q833 : (Jvm.Cond.instanceMethod ({ cls := "Foundrymark$Supplier", name := "refuses", desc := "(I)Z" } : Jvm.MethodName)) ∈ lw_all := lw_g (lw_at lw_m4 74 rfl) rfl
theorem q834 : (Jvm.Cond.selects "Foundrymark$Supplier" ({ cls := "Foundrymark$Supplier", name := "refuses", desc := "(I)Z" } : Jvm.MethodName) ({ cls := "Foundrymark$Supplier", name := "refuses", desc := "(I)Z" } : Jvm.MethodName)) ∈ lw_all := lw_g (lw_at lw_m4 75 rfl) rfl
theorem q835 : (Jvm.Cond.code ({ cls := "Foundrymark$Supplier", name := "refuses", desc := "(I)Z" } : Jvm.MethodName) prog_16_method_2_code (4 : Nat) (Option.some Jvm.ClassFile.FieldType.boolean)) ∈ lw_all := lw_g (lw_at lw_m4 76 rfl) rfl
theorem q836 : (Jvm.Cond.methodLink "Foundrymark$Supplier" (29 : Nat) ({ cls := "java/lang/Boolean", name := "valueOf", desc := "(Z)Ljava/lang/Boolean;" } : Jvm.MethodName)) ∈ lw_all := lw_g (lw_at lw_m4 77 rfl) rfl
theorem q843 : (Jvm.Cond.methodLink "Foundrymark$Supplier" (35 : Nat) ({ cls := "java/util/ArrayList", name := "add", desc := "(Ljava/lang/Object;)Z" } : Jvm.MethodName)) ∈ lw_all := lw_g (lw_at lw_m4 84 rfl) rfl
theorem q844 : (Jvm.Cond.methodLink "Foundrymark$Supplier" (39 : Nat) ({ cls := "Foundrymark$Rule", name := "next", desc := "(Ljava/util/ArrayList;)LFoundrymark$Rule;" } : Jvm.MethodName)) ∈ lw_all := lw_g (lw_at lw_m4 85 rfl) rfl
theorem q884 : (Jvm.Cond.methodLink "Foundrymark$Supplier" (43 : Nat) ({ cls := "java/util/ArrayList", name := "clear", desc := "()V" } : Jvm.MethodName)) ∈ lw_all := lw_g (lw_at lw_m4 125 rfl) rfl
theorem q1981 : (Jvm.Cond.castable "Foundrymark$Supplier" "java/lang/Object") ∈ lw_tbl := lw_at lw_m9 22 rfl
theorem q2028 : (Jvm.Cond.fieldLinkNest "Foundrymark$Supplier" (25 : Nat) "Foundrymark$Rule" "most" "I" "Foundrymark") ∈ lw_tbl := lw_at lw_m9 69 rfl
theorem in_X2 : ∀ w ∈ wsX20, w ∈ lw_all := lw_in wsX20 [141, 143] (by decide +kernel) (by decide +kernel)

/-! Foundrymark$Rule -/
set_option maxRecDepth 100000
def RX3 : String := "Foundrymark$Rule"
abbrev cX3_areGood : ByteArray := prog_11_method_5_code
def yX3_areGood : MethodName := ⟨RX3, "areGood", "(Ljava/util/ArrayList;I)Z"⟩
def dkwX3_areGood_2 : List UInt8 := [154, 0, 7, 4, 167, 0, 4, 3, 61, 132, 3, 1, 167, 255, 221, 28, 172]
abbrev dktX3_areGood_2 : List UInt8 := dkwX3_areGood_2 ++ []
def dkwX3_areGood_1 : List UInt8 := [62, 29, 42, 182, 0, 40, 162, 0, 33, 28, 153, 0, 21, 42, 29, 182, 0, 52, 192, 0, 56, 182, 0, 58]
abbrev dktX3_areGood_1 : List UInt8 := dkwX3_areGood_1 ++ dktX3_areGood_2
def dkwX3_areGood_0 : List UInt8 := [42, 182, 0, 40, 27, 161, 0, 7, 4, 167, 0, 4, 3, 61, 3, 42, 182, 0, 40, 27, 100, 184, 0, 46]
abbrev dktX3_areGood_0 : List UInt8 := dkwX3_areGood_0 ++ dktX3_areGood_1
theorem dksX3_areGood_0 : cX3_areGood.data.toList.drop 0 = dktX3_areGood_0 := by decide +kernel
theorem dksX3_areGood_1 : cX3_areGood.data.toList.drop 24 = dktX3_areGood_1 := dk_seg dksX3_areGood_0 24 rfl rfl
theorem dksX3_areGood_2 : cX3_areGood.data.toList.drop 48 = dktX3_areGood_2 := dk_seg dksX3_areGood_1 24 rfl rfl
theorem dX3_areGood_0 : decode cX3_areGood 0 = .ok (.aload_n 0, 1) := dk_42 (dk_at dksX3_areGood_0 0 rfl rfl)
theorem dX3_areGood_1 : decode cX3_areGood 1 = .ok (.invokevirtual 40, 3) := dk_182 0 40 (dk_at dksX3_areGood_0 1 rfl rfl)
theorem dX3_areGood_4 : decode cX3_areGood 4 = .ok (.iload_n 1, 1) := dk_27 (dk_at dksX3_areGood_0 4 rfl rfl)
theorem dX3_areGood_5 : decode cX3_areGood 5 = .ok (.if_icmp .lt 7, 3) := dk_161 0 7 (dk_at dksX3_areGood_0 5 rfl rfl)
theorem dX3_areGood_8 : decode cX3_areGood 8 = .ok (.iconst 1, 1) := dk_4 (dk_at dksX3_areGood_0 8 rfl rfl)
theorem dX3_areGood_9 : decode cX3_areGood 9 = .ok (.goto 4, 3) := dk_167 0 4 (dk_at dksX3_areGood_0 9 rfl rfl)
theorem dX3_areGood_12 : decode cX3_areGood 12 = .ok (.iconst 0, 1) := dk_3 (dk_at dksX3_areGood_0 12 rfl rfl)
theorem dX3_areGood_13 : decode cX3_areGood 13 = .ok (.istore_n 2, 1) := dk_61 (dk_at dksX3_areGood_0 13 rfl rfl)
theorem dX3_areGood_14 : decode cX3_areGood 14 = .ok (.iconst 0, 1) := dk_3 (dk_at dksX3_areGood_0 14 rfl rfl)
theorem dX3_areGood_15 : decode cX3_areGood 15 = .ok (.aload_n 0, 1) := dk_42 (dk_at dksX3_areGood_0 15 rfl rfl)
theorem dX3_areGood_16 : decode cX3_areGood 16 = .ok (.invokevirtual 40, 3) := dk_182 0 40 (dk_at dksX3_areGood_0 16 rfl rfl)
theorem dX3_areGood_19 : decode cX3_areGood 19 = .ok (.iload_n 1, 1) := dk_27 (dk_at dksX3_areGood_0 19 rfl rfl)
theorem dX3_areGood_20 : decode cX3_areGood 20 = .ok (.isub, 1) := dk_100 (dk_at dksX3_areGood_0 20 rfl rfl)
theorem dX3_areGood_21 : decode cX3_areGood 21 = .ok (.invokestatic 46, 3) := dk_184 0 46 (dk_at dksX3_areGood_0 21 rfl rfl)
theorem dX3_areGood_24 : decode cX3_areGood 24 = .ok (.istore_n 3, 1) := dk_62 (dk_at dksX3_areGood_1 0 rfl rfl)
theorem dX3_areGood_25 : decode cX3_areGood 25 = .ok (.iload_n 3, 1) := dk_29 (dk_at dksX3_areGood_1 1 rfl rfl)
theorem dX3_areGood_26 : decode cX3_areGood 26 = .ok (.aload_n 0, 1) := dk_42 (dk_at dksX3_areGood_1 2 rfl rfl)
theorem dX3_areGood_27 : decode cX3_areGood 27 = .ok (.invokevirtual 40, 3) := dk_182 0 40 (dk_at dksX3_areGood_1 3 rfl rfl)
theorem dX3_areGood_30 : decode cX3_areGood 30 = .ok (.if_icmp .ge 33, 3) := dk_162 0 33 (dk_at dksX3_areGood_1 6 rfl rfl)
theorem dX3_areGood_33 : decode cX3_areGood 33 = .ok (.iload_n 2, 1) := dk_28 (dk_at dksX3_areGood_1 9 rfl rfl)
theorem dX3_areGood_34 : decode cX3_areGood 34 = .ok (.ifCond .eq 21, 3) := dk_153 0 21 (dk_at dksX3_areGood_1 10 rfl rfl)
theorem dX3_areGood_37 : decode cX3_areGood 37 = .ok (.aload_n 0, 1) := dk_42 (dk_at dksX3_areGood_1 13 rfl rfl)
theorem dX3_areGood_38 : decode cX3_areGood 38 = .ok (.iload_n 3, 1) := dk_29 (dk_at dksX3_areGood_1 14 rfl rfl)
theorem dX3_areGood_39 : decode cX3_areGood 39 = .ok (.invokevirtual 52, 3) := dk_182 0 52 (dk_at dksX3_areGood_1 15 rfl rfl)
theorem dX3_areGood_42 : decode cX3_areGood 42 = .ok (.checkcast 56, 3) := dk_192 0 56 (dk_at dksX3_areGood_1 18 rfl rfl)
theorem dX3_areGood_45 : decode cX3_areGood 45 = .ok (.invokevirtual 58, 3) := dk_182 0 58 (dk_at dksX3_areGood_1 21 rfl rfl)
theorem dX3_areGood_48 : decode cX3_areGood 48 = .ok (.ifCond .ne 7, 3) := dk_154 0 7 (dk_at dksX3_areGood_2 0 rfl rfl)
theorem dX3_areGood_51 : decode cX3_areGood 51 = .ok (.iconst 1, 1) := dk_4 (dk_at dksX3_areGood_2 3 rfl rfl)
theorem dX3_areGood_52 : decode cX3_areGood 52 = .ok (.goto 4, 3) := dk_167 0 4 (dk_at dksX3_areGood_2 4 rfl rfl)
theorem dX3_areGood_55 : decode cX3_areGood 55 = .ok (.iconst 0, 1) := dk_3 (dk_at dksX3_areGood_2 7 rfl rfl)
theorem dX3_areGood_56 : decode cX3_areGood 56 = .ok (.istore_n 2, 1) := dk_61 (dk_at dksX3_areGood_2 8 rfl rfl)
theorem dX3_areGood_57 : decode cX3_areGood 57 = .ok (.iinc 3 1, 3) := dk_132 3 1 (dk_at dksX3_areGood_2 9 rfl rfl)
theorem dX3_areGood_60 : decode cX3_areGood 60 = .ok (.goto (-35), 3) := dk_167 255 221 (dk_at dksX3_areGood_2 12 rfl rfl)
theorem dX3_areGood_63 : decode cX3_areGood 63 = .ok (.iload_n 2, 1) := dk_28 (dk_at dksX3_areGood_2 15 rfl rfl)
theorem dX3_areGood_64 : decode cX3_areGood 64 = .ok (.ireturn, 1) := dk_172 (dk_at dksX3_areGood_2 16 rfl rfl)
theorem q46 : (Jvm.Cond.initialized "Foundrymark$Rule") ∈ lw_all := lw_g (lw_at lw_m1 7 rfl) rfl
theorem q135 : (Jvm.Cond.laysStatic "Foundrymark$Rule" "NORMAL" "LFoundrymark$Rule;") ∈ lw_tbl := lw_at lw_m1 96 rfl
theorem q845 : (Jvm.Cond.declares ({ cls := "Foundrymark$Rule", name := "next", desc := "(Ljava/util/ArrayList;)LFoundrymark$Rule;" } : Jvm.MethodName)) ∈ lw_tbl := lw_at lw_m4 86 rfl
theorem q846 : (Jvm.Cond.sameMethod "Foundrymark$Rule" "Foundrymark$Rule" "next" "(Ljava/util/ArrayList;)LFoundrymark$Rule;") ∈ lw_all := lw_g (lw_at lw_m4 87 rfl) rfl
theorem q860 : (Jvm.Cond.laysStatic "Foundrymark$Rule" "TIGHT" "LFoundrymark$Rule;") ∈ lw_tbl := lw_at lw_m4 101 rfl
theorem q862 : (Jvm.Cond.static ({ cls := "Foundrymark$Rule", name := "areGood", desc := "(Ljava/util/ArrayList;I)Z" } : Jvm.MethodName)) ∈ lw_all := lw_g (lw_at lw_m4 103 rfl) rfl
theorem q863 : (Jvm.Cond.code ({ cls := "Foundrymark$Rule", name := "areGood", desc := "(Ljava/util/ArrayList;I)Z" } : Jvm.MethodName) prog_11_method_5_code (4 : Nat) (Option.some Jvm.ClassFile.FieldType.boolean)) ∈ lw_all := lw_g (lw_at lw_m4 104 rfl) rfl
theorem q864 : (Jvm.Cond.methodLink "Foundrymark$Rule" (40 : Nat) ({ cls := "java/util/ArrayList", name := "size", desc := "()I" } : Jvm.MethodName)) ∈ lw_all := lw_g (lw_at lw_m4 105 rfl) rfl
theorem q865 : (Jvm.Cond.methodLink "Foundrymark$Rule" (46 : Nat) ({ cls := "java/lang/Math", name := "max", desc := "(II)I" } : Jvm.MethodName)) ∈ lw_all := lw_g (lw_at lw_m4 106 rfl) rfl
theorem q866 : (Jvm.Cond.methodLink "Foundrymark$Rule" (52 : Nat) ({ cls := "java/util/ArrayList", name := "get", desc := "(I)Ljava/lang/Object;" } : Jvm.MethodName)) ∈ lw_all := lw_g (lw_at lw_m4 107 rfl) rfl
theorem q867 : (Jvm.Cond.classLink "Foundrymark$Rule" (56 : Nat) "java/lang/Boolean") ∈ lw_all := lw_g (lw_at lw_m4 108 rfl) rfl
theorem q868 : (Jvm.Cond.methodLink "Foundrymark$Rule" (58 : Nat) ({ cls := "java/lang/Boolean", name := "booleanValue", desc := "()Z" } : Jvm.MethodName)) ∈ lw_all := lw_g (lw_at lw_m4 109 rfl) rfl
theorem q871 : (Jvm.Cond.laysStatic "Foundrymark$Rule" "REDUCED" "LFoundrymark$Rule;") ∈ lw_tbl := lw_at lw_m4 112 rfl
theorem q2019 : (Jvm.Cond.castable "Foundrymark$Rule" "java/lang/Object") ∈ lw_tbl := lw_at lw_m9 60 rfl

/-! Foundrymark$Machine -/
set_option maxRecDepth 100000
def RX5 : String := "Foundrymark$Machine"
def TX5 : u_T := fun k => match k with
  | 0 => ("Foundrymark$Machine", "rate", "I", true)
  | 1 => ("Foundrymark$Machine", "setup", "I", true)
  | 2 => ("Foundrymark$Machine", "life", "I", true)
  | 3 => ("Foundrymark$Machine", "repair", "I", true)
  | 4 => ("Foundrymark$Machine", "queue", "Ljava/util/PriorityQueue;", true)
  | 5 => ("Foundrymark$Machine", "family", "I", false)
  | 6 => ("Foundrymark$Machine", "wear", "I", false)
  | 7 => ("Foundrymark$Machine", "working", "LFoundrymark$Order;", false)
  | 8 => ("Foundrymark$Machine", "isBroken", "Z", false)
  | 9 => ("Foundrymark$Machine", "began", "I", false)
  | 10 => ("Foundrymark$Machine", "ends", "I", false)
  | _ => ("Foundrymark$Machine", "busy", "J", false)
def tyX5 : Nat → FieldType := fun k => match k with
  | 0 => .int
  | 1 => .int
  | 2 => .int
  | 3 => .int
  | 4 => .object "java/util/PriorityQueue"
  | 5 => .int
  | 6 => .int
  | 7 => .object "Foundrymark$Order"
  | 8 => .boolean
  | 9 => .int
  | 10 => .int
  | _ => .long
abbrev wsX50 : List Cond := u_ws RX5 TX5 12
theorem nmX5 : ∀ a, a < 12 → ∀ b, b < 12 → a ≠ b → (TX5 a).2.1 ≠ (TX5 b).2.1 := by decide +kernel
theorem tyX5_ok : ∀ k, k < 12 → parseFieldDescriptor (TX5 k).2.2.1 = some (tyX5 k) := by decide +kernel
abbrev cX5_init : ByteArray := prog_6_method_1_code
def yX5_init : MethodName := ⟨RX5, "<init>", "(IIII)V"⟩
def dkwX5_init_1 : List UInt8 := [181, 0, 22, 42, 28, 181, 0, 25, 42, 29, 181, 0, 28, 42, 21, 4, 181, 0, 31, 177]
abbrev dktX5_init_1 : List UInt8 := dkwX5_init_1 ++ []
def dkwX5_init_0 : List UInt8 := [42, 183, 0, 3, 42, 187, 0, 9, 89, 183, 0, 11, 181, 0, 12, 42, 2, 181, 0, 18, 42, 27]
abbrev dktX5_init_0 : List UInt8 := dkwX5_init_0 ++ dktX5_init_1
theorem dksX5_init_0 : cX5_init.data.toList.drop 0 = dktX5_init_0 := by decide +kernel
theorem dksX5_init_1 : cX5_init.data.toList.drop 22 = dktX5_init_1 := dk_seg dksX5_init_0 22 rfl rfl
theorem dX5_init_0 : decode cX5_init 0 = .ok (.aload_n 0, 1) := dk_42 (dk_at dksX5_init_0 0 rfl rfl)
theorem dX5_init_1 : decode cX5_init 1 = .ok (.invokespecial 3, 3) := dk_183 0 3 (dk_at dksX5_init_0 1 rfl rfl)
theorem dX5_init_4 : decode cX5_init 4 = .ok (.aload_n 0, 1) := dk_42 (dk_at dksX5_init_0 4 rfl rfl)
theorem dX5_init_5 : decode cX5_init 5 = .ok (.new 9, 3) := dk_187 0 9 (dk_at dksX5_init_0 5 rfl rfl)
theorem dX5_init_8 : decode cX5_init 8 = .ok (.dup, 1) := dk_89 (dk_at dksX5_init_0 8 rfl rfl)
theorem dX5_init_9 : decode cX5_init 9 = .ok (.invokespecial 11, 3) := dk_183 0 11 (dk_at dksX5_init_0 9 rfl rfl)
theorem dX5_init_12 : decode cX5_init 12 = .ok (.putfield 12, 3) := dk_181 0 12 (dk_at dksX5_init_0 12 rfl rfl)
theorem dX5_init_15 : decode cX5_init 15 = .ok (.aload_n 0, 1) := dk_42 (dk_at dksX5_init_0 15 rfl rfl)
theorem dX5_init_16 : decode cX5_init 16 = .ok (.iconst (-1), 1) := dk_2 (dk_at dksX5_init_0 16 rfl rfl)
theorem dX5_init_17 : decode cX5_init 17 = .ok (.putfield 18, 3) := dk_181 0 18 (dk_at dksX5_init_0 17 rfl rfl)
theorem dX5_init_20 : decode cX5_init 20 = .ok (.aload_n 0, 1) := dk_42 (dk_at dksX5_init_0 20 rfl rfl)
theorem dX5_init_21 : decode cX5_init 21 = .ok (.iload_n 1, 1) := dk_27 (dk_at dksX5_init_0 21 rfl rfl)
theorem dX5_init_22 : decode cX5_init 22 = .ok (.putfield 22, 3) := dk_181 0 22 (dk_at dksX5_init_1 0 rfl rfl)
theorem dX5_init_25 : decode cX5_init 25 = .ok (.aload_n 0, 1) := dk_42 (dk_at dksX5_init_1 3 rfl rfl)
theorem dX5_init_26 : decode cX5_init 26 = .ok (.iload_n 2, 1) := dk_28 (dk_at dksX5_init_1 4 rfl rfl)
theorem dX5_init_27 : decode cX5_init 27 = .ok (.putfield 25, 3) := dk_181 0 25 (dk_at dksX5_init_1 5 rfl rfl)
theorem dX5_init_30 : decode cX5_init 30 = .ok (.aload_n 0, 1) := dk_42 (dk_at dksX5_init_1 8 rfl rfl)
theorem dX5_init_31 : decode cX5_init 31 = .ok (.iload_n 3, 1) := dk_29 (dk_at dksX5_init_1 9 rfl rfl)
theorem dX5_init_32 : decode cX5_init 32 = .ok (.putfield 28, 3) := dk_181 0 28 (dk_at dksX5_init_1 10 rfl rfl)
theorem dX5_init_35 : decode cX5_init 35 = .ok (.aload_n 0, 1) := dk_42 (dk_at dksX5_init_1 13 rfl rfl)
theorem dX5_init_36 : decode cX5_init 36 = .ok (.iload 4, 2) := dk_21 4 (dk_at dksX5_init_1 14 rfl rfl)
theorem dX5_init_38 : decode cX5_init 38 = .ok (.putfield 31, 3) := dk_181 0 31 (dk_at dksX5_init_1 16 rfl rfl)
theorem dX5_init_41 : decode cX5_init 41 = .ok (.return_, 1) := dk_177 (dk_at dksX5_init_1 19 rfl rfl)
abbrev cX5_jobs : ByteArray := prog_6_method_2_code
def yX5_jobs : MethodName := ⟨RX5, "jobs", "()I"⟩
def dkwX5_jobs_0 : List UInt8 := [42, 180, 0, 12, 182, 0, 34, 42, 180, 0, 38, 199, 0, 7, 3, 167, 0, 4, 4, 96, 172]
abbrev dktX5_jobs_0 : List UInt8 := dkwX5_jobs_0 ++ []
theorem dksX5_jobs_0 : cX5_jobs.data.toList.drop 0 = dktX5_jobs_0 := by decide +kernel
theorem dX5_jobs_0 : decode cX5_jobs 0 = .ok (.aload_n 0, 1) := dk_42 (dk_at dksX5_jobs_0 0 rfl rfl)
theorem dX5_jobs_1 : decode cX5_jobs 1 = .ok (.getfield 12, 3) := dk_180 0 12 (dk_at dksX5_jobs_0 1 rfl rfl)
theorem dX5_jobs_4 : decode cX5_jobs 4 = .ok (.invokevirtual 34, 3) := dk_182 0 34 (dk_at dksX5_jobs_0 4 rfl rfl)
theorem dX5_jobs_7 : decode cX5_jobs 7 = .ok (.aload_n 0, 1) := dk_42 (dk_at dksX5_jobs_0 7 rfl rfl)
theorem dX5_jobs_8 : decode cX5_jobs 8 = .ok (.getfield 38, 3) := dk_180 0 38 (dk_at dksX5_jobs_0 8 rfl rfl)
theorem dX5_jobs_11 : decode cX5_jobs 11 = .ok (.ifnonnull 7, 3) := dk_199 0 7 (dk_at dksX5_jobs_0 11 rfl rfl)
theorem dX5_jobs_14 : decode cX5_jobs 14 = .ok (.iconst 0, 1) := dk_3 (dk_at dksX5_jobs_0 14 rfl rfl)
theorem dX5_jobs_15 : decode cX5_jobs 15 = .ok (.goto 4, 3) := dk_167 0 4 (dk_at dksX5_jobs_0 15 rfl rfl)
theorem dX5_jobs_18 : decode cX5_jobs 18 = .ok (.iconst 1, 1) := dk_4 (dk_at dksX5_jobs_0 18 rfl rfl)
theorem dX5_jobs_19 : decode cX5_jobs 19 = .ok (.iadd, 1) := dk_96 (dk_at dksX5_jobs_0 19 rfl rfl)
theorem dX5_jobs_20 : decode cX5_jobs 20 = .ok (.ireturn, 1) := dk_172 (dk_at dksX5_jobs_0 20 rfl rfl)
abbrev cX5_isFree : ByteArray := prog_6_method_3_code
def yX5_isFree : MethodName := ⟨RX5, "isFree", "()Z"⟩
def dkwX5_isFree_0 : List UInt8 := [42, 180, 0, 38, 199, 0, 14, 42, 180, 0, 42, 154, 0, 7, 4, 167, 0, 4, 3, 172]
abbrev dktX5_isFree_0 : List UInt8 := dkwX5_isFree_0 ++ []
theorem dksX5_isFree_0 : cX5_isFree.data.toList.drop 0 = dktX5_isFree_0 := by decide +kernel
theorem dX5_isFree_0 : decode cX5_isFree 0 = .ok (.aload_n 0, 1) := dk_42 (dk_at dksX5_isFree_0 0 rfl rfl)
theorem dX5_isFree_1 : decode cX5_isFree 1 = .ok (.getfield 38, 3) := dk_180 0 38 (dk_at dksX5_isFree_0 1 rfl rfl)
theorem dX5_isFree_4 : decode cX5_isFree 4 = .ok (.ifnonnull 14, 3) := dk_199 0 14 (dk_at dksX5_isFree_0 4 rfl rfl)
theorem dX5_isFree_7 : decode cX5_isFree 7 = .ok (.aload_n 0, 1) := dk_42 (dk_at dksX5_isFree_0 7 rfl rfl)
theorem dX5_isFree_8 : decode cX5_isFree 8 = .ok (.getfield 42, 3) := dk_180 0 42 (dk_at dksX5_isFree_0 8 rfl rfl)
theorem dX5_isFree_11 : decode cX5_isFree 11 = .ok (.ifCond .ne 7, 3) := dk_154 0 7 (dk_at dksX5_isFree_0 11 rfl rfl)
theorem dX5_isFree_14 : decode cX5_isFree 14 = .ok (.iconst 1, 1) := dk_4 (dk_at dksX5_isFree_0 14 rfl rfl)
theorem dX5_isFree_15 : decode cX5_isFree 15 = .ok (.goto 4, 3) := dk_167 0 4 (dk_at dksX5_isFree_0 15 rfl rfl)
theorem dX5_isFree_18 : decode cX5_isFree 18 = .ok (.iconst 0, 1) := dk_3 (dk_at dksX5_isFree_0 18 rfl rfl)
theorem dX5_isFree_19 : decode cX5_isFree 19 = .ok (.ireturn, 1) := dk_172 (dk_at dksX5_isFree_0 19 rfl rfl)
abbrev cX5_endsAt : ByteArray := prog_6_method_4_code
def yX5_endsAt : MethodName := ⟨RX5, "endsAt", "(I)Z"⟩
def dkwX5_endsAt_0 : List UInt8 := [42, 182, 0, 46, 154, 0, 15, 42, 180, 0, 50, 27, 160, 0, 7, 4, 167, 0, 4, 3, 172]
abbrev dktX5_endsAt_0 : List UInt8 := dkwX5_endsAt_0 ++ []
theorem dksX5_endsAt_0 : cX5_endsAt.data.toList.drop 0 = dktX5_endsAt_0 := by decide +kernel
theorem dX5_endsAt_0 : decode cX5_endsAt 0 = .ok (.aload_n 0, 1) := dk_42 (dk_at dksX5_endsAt_0 0 rfl rfl)
theorem dX5_endsAt_1 : decode cX5_endsAt 1 = .ok (.invokevirtual 46, 3) := dk_182 0 46 (dk_at dksX5_endsAt_0 1 rfl rfl)
theorem dX5_endsAt_4 : decode cX5_endsAt 4 = .ok (.ifCond .ne 15, 3) := dk_154 0 15 (dk_at dksX5_endsAt_0 4 rfl rfl)
theorem dX5_endsAt_7 : decode cX5_endsAt 7 = .ok (.aload_n 0, 1) := dk_42 (dk_at dksX5_endsAt_0 7 rfl rfl)
theorem dX5_endsAt_8 : decode cX5_endsAt 8 = .ok (.getfield 50, 3) := dk_180 0 50 (dk_at dksX5_endsAt_0 8 rfl rfl)
theorem dX5_endsAt_11 : decode cX5_endsAt 11 = .ok (.iload_n 1, 1) := dk_27 (dk_at dksX5_endsAt_0 11 rfl rfl)
theorem dX5_endsAt_12 : decode cX5_endsAt 12 = .ok (.if_icmp .ne 7, 3) := dk_160 0 7 (dk_at dksX5_endsAt_0 12 rfl rfl)
theorem dX5_endsAt_15 : decode cX5_endsAt 15 = .ok (.iconst 1, 1) := dk_4 (dk_at dksX5_endsAt_0 15 rfl rfl)
theorem dX5_endsAt_16 : decode cX5_endsAt 16 = .ok (.goto 4, 3) := dk_167 0 4 (dk_at dksX5_endsAt_0 16 rfl rfl)
theorem dX5_endsAt_19 : decode cX5_endsAt 19 = .ok (.iconst 0, 1) := dk_3 (dk_at dksX5_endsAt_0 19 rfl rfl)
theorem dX5_endsAt_20 : decode cX5_endsAt 20 = .ok (.ireturn, 1) := dk_172 (dk_at dksX5_endsAt_0 20 rfl rfl)
theorem q57 : (Jvm.Cond.initialized "Foundrymark$Machine") ∈ lw_all := lw_g (lw_at lw_m1 18 rfl) rfl
theorem q445 : (Jvm.Cond.instantiable "Foundrymark$Machine" (12 : Nat)) ∈ lw_all := lw_g (lw_at lw_m2 166 rfl) rfl
theorem q447 : (Jvm.Cond.instanceMethod ({ cls := "Foundrymark$Machine", name := "<init>", desc := "(IIII)V" } : Jvm.MethodName)) ∈ lw_all := lw_g (lw_at lw_m2 168 rfl) rfl
theorem q448 : (Jvm.Cond.code ({ cls := "Foundrymark$Machine", name := "<init>", desc := "(IIII)V" } : Jvm.MethodName) prog_6_method_1_code (5 : Nat) (Option.none : Option Jvm.ClassFile.FieldType)) ∈ lw_all := lw_g (lw_at lw_m2 169 rfl) rfl
theorem q449 : (Jvm.Cond.methodLink "Foundrymark$Machine" (3 : Nat) ({ cls := "java/lang/Object", name := "<init>", desc := "()V" } : Jvm.MethodName)) ∈ lw_all := lw_g (lw_at lw_m2 170 rfl) rfl
theorem q450 : (Jvm.Cond.classLink "Foundrymark$Machine" (9 : Nat) "java/util/PriorityQueue") ∈ lw_all := lw_g (lw_at lw_m2 171 rfl) rfl
theorem q452 : (Jvm.Cond.methodLink "Foundrymark$Machine" (11 : Nat) ({ cls := "java/util/PriorityQueue", name := "<init>", desc := "()V" } : Jvm.MethodName)) ∈ lw_all := lw_g (lw_at lw_m2 173 rfl) rfl
theorem q479 : (Jvm.Cond.fieldLink "Foundrymark$Machine" (22 : Nat) "Foundrymark$Machine" "rate" "I") ∈ lw_all := lw_g (lw_at lw_m2 200 rfl) rfl
theorem q481 : (Jvm.Cond.fieldLink "Foundrymark$Machine" (25 : Nat) "Foundrymark$Machine" "setup" "I") ∈ lw_all := lw_g (lw_at lw_m2 202 rfl) rfl
theorem q483 : (Jvm.Cond.fieldLink "Foundrymark$Machine" (28 : Nat) "Foundrymark$Machine" "life" "I") ∈ lw_all := lw_g (lw_at lw_m2 204 rfl) rfl
theorem q485 : (Jvm.Cond.fieldLink "Foundrymark$Machine" (31 : Nat) "Foundrymark$Machine" "repair" "I") ∈ lw_all := lw_g (lw_at lw_m2 206 rfl) rfl
theorem q487 : (Jvm.Cond.fieldLink "Foundrymark$Machine" (12 : Nat) "Foundrymark$Machine" "queue" "Ljava/util/PriorityQueue;") ∈ lw_all := lw_g (lw_at lw_m2 208 rfl) rfl
theorem q489 : (Jvm.Cond.fieldLink "Foundrymark$Machine" (18 : Nat) "Foundrymark$Machine" "family" "I") ∈ lw_all := lw_g (lw_at lw_m2 210 rfl) rfl
theorem q492 : (Jvm.Cond.fieldLink "Foundrymark$Machine" (38 : Nat) "Foundrymark$Machine" "working" "LFoundrymark$Order;") ∈ lw_all := lw_g (lw_at lw_m2 213 rfl) rfl
theorem q494 : (Jvm.Cond.fieldLink "Foundrymark$Machine" (42 : Nat) "Foundrymark$Machine" "isBroken" "Z") ∈ lw_all := lw_g (lw_at lw_m2 215 rfl) rfl
theorem q497 : (Jvm.Cond.fieldLink "Foundrymark$Machine" (50 : Nat) "Foundrymark$Machine" "ends" "I") ∈ lw_all := lw_g (lw_at lw_m2 218 rfl) rfl
theorem q500 : (Jvm.Cond.laysFinal "Foundrymark$Machine" "Foundrymark$Machine" "rate" "I") ∈ lw_all := lw_g (lw_at lw_m2 221 rfl) rfl
theorem q501 : (Jvm.Cond.soleField "Foundrymark$Machine" "rate") ∈ lw_all := lw_g (lw_at lw_m2 222 rfl) rfl
theorem q502 : (Jvm.Cond.laysFinal "Foundrymark$Machine" "Foundrymark$Machine" "setup" "I") ∈ lw_all := lw_g (lw_at lw_m2 223 rfl) rfl
theorem q503 : (Jvm.Cond.soleField "Foundrymark$Machine" "setup") ∈ lw_all := lw_g (lw_at lw_m2 224 rfl) rfl
theorem q504 : (Jvm.Cond.laysFinal "Foundrymark$Machine" "Foundrymark$Machine" "life" "I") ∈ lw_all := lw_g (lw_at lw_m2 225 rfl) rfl
theorem q505 : (Jvm.Cond.soleField "Foundrymark$Machine" "life") ∈ lw_all := lw_g (lw_at lw_m2 226 rfl) rfl
theorem q506 : (Jvm.Cond.laysFinal "Foundrymark$Machine" "Foundrymark$Machine" "repair" "I") ∈ lw_all := lw_g (lw_at lw_m2 227 rfl) rfl
theorem q507 : (Jvm.Cond.soleField "Foundrymark$Machine" "repair") ∈ lw_all := lw_g (lw_at lw_m2 228 rfl) rfl
theorem q508 : (Jvm.Cond.laysFinal "Foundrymark$Machine" "Foundrymark$Machine" "queue" "Ljava/util/PriorityQueue;") ∈ lw_all := lw_g (lw_at lw_m2 229 rfl) rfl
theorem q509 : (Jvm.Cond.soleField "Foundrymark$Machine" "queue") ∈ lw_all := lw_g (lw_at lw_m2 230 rfl) rfl
theorem q510 : (Jvm.Cond.lays "Foundrymark$Machine" "Foundrymark$Machine" "family" "I") ∈ lw_all := lw_g (lw_at lw_m2 231 rfl) rfl
theorem q511 : (Jvm.Cond.soleField "Foundrymark$Machine" "family") ∈ lw_all := lw_g (lw_at lw_m2 232 rfl) rfl
theorem q512 : (Jvm.Cond.lays "Foundrymark$Machine" "Foundrymark$Machine" "wear" "I") ∈ lw_all := lw_g (lw_at lw_m2 233 rfl) rfl
theorem q513 : (Jvm.Cond.soleField "Foundrymark$Machine" "wear") ∈ lw_all := lw_g (lw_at lw_m2 234 rfl) rfl
theorem q514 : (Jvm.Cond.lays "Foundrymark$Machine" "Foundrymark$Machine" "working" "LFoundrymark$Order;") ∈ lw_all := lw_g (lw_at lw_m2 235 rfl) rfl
theorem q515 : (Jvm.Cond.soleField "Foundrymark$Machine" "working") ∈ lw_all := lw_g (lw_at lw_m2 236 rfl) rfl
theorem q516 : (Jvm.Cond.lays "Foundrymark$Machine" "Foundrymark$Machine" "isBroken" "Z") ∈ lw_all := lw_g (lw_at lw_m2 237 rfl) rfl
theorem q517 : (Jvm.Cond.soleField "Foundrymark$Machine" "isBroken") ∈ lw_all := lw_g (lw_at lw_m2 238 rfl) rfl
theorem q518 : (Jvm.Cond.lays "Foundrymark$Machine" "Foundrymark$Machine" "began" "I") ∈ lw_all := lw_g (lw_at lw_m2 239 rfl) rfl
theorem q519 : (Jvm.Cond.soleField "Foundrymark$Machine" "began") ∈ lw_all := lw_g (lw_at lw_m3 0 rfl) rfl
theorem q520 : (Jvm.Cond.lays "Foundrymark$Machine" "Foundrymark$Machine" "ends" "I") ∈ lw_all := lw_g (lw_at lw_m3 1 rfl) rfl
theorem q521 : (Jvm.Cond.soleField "Foundrymark$Machine" "ends") ∈ lw_all := lw_g (lw_at lw_m3 2 rfl) rfl
theorem q522 : (Jvm.Cond.lays "Foundrymark$Machine" "Foundrymark$Machine" "busy" "J") ∈ lw_all := lw_g (lw_at lw_m3 3 rfl) rfl
theorem q523 : (Jvm.Cond.soleField "Foundrymark$Machine" "busy") ∈ lw_all := lw_g (lw_at lw_m3 4 rfl) rfl
theorem q524 : (Jvm.Cond.superclass "Foundrymark$Machine" "java/lang/Object") ∈ lw_all := lw_g (lw_at lw_m3 5 rfl) rfl
theorem q562 : (Jvm.Cond.selects "Foundrymark$Machine" ({ cls := "java/lang/Object", name := "getClass", desc := "()Ljava/lang/Class;" } : Jvm.MethodName) ({ cls := "java/lang/Object", name := "getClass", desc := "()Ljava/lang/Class;" } : Jvm.MethodName)) ∈ lw_all := lw_g (lw_at lw_m3 43 rfl) rfl
theorem q1142 : (Jvm.Cond.instanceMethod ({ cls := "Foundrymark$Machine", name := "jobs", desc := "()I" } : Jvm.MethodName)) ∈ lw_all := lw_g (lw_at lw_m5 143 rfl) rfl
theorem q1143 : (Jvm.Cond.selects "Foundrymark$Machine" ({ cls := "Foundrymark$Machine", name := "jobs", desc := "()I" } : Jvm.MethodName) ({ cls := "Foundrymark$Machine", name := "jobs", desc := "()I" } : Jvm.MethodName)) ∈ lw_all := lw_g (lw_at lw_m5 144 rfl) rfl
theorem q1144 : (Jvm.Cond.code ({ cls := "Foundrymark$Machine", name := "jobs", desc := "()I" } : Jvm.MethodName) prog_6_method_2_code (1 : Nat) (Option.some Jvm.ClassFile.FieldType.int)) ∈ lw_all := lw_g (lw_at lw_m5 145 rfl) rfl
theorem q1145 : (Jvm.Cond.methodLink "Foundrymark$Machine" (34 : Nat) ({ cls := "java/util/PriorityQueue", name := "size", desc := "()I" } : Jvm.MethodName)) ∈ lw_all := lw_g (lw_at lw_m5 146 rfl) rfl
theorem q1260 : (Jvm.Cond.instanceMethod ({ cls := "Foundrymark$Machine", name := "isFree", desc := "()Z" } : Jvm.MethodName)) ∈ lw_all := lw_g (lw_at lw_m6 21 rfl) rfl
theorem q1261 : (Jvm.Cond.selects "Foundrymark$Machine" ({ cls := "Foundrymark$Machine", name := "isFree", desc := "()Z" } : Jvm.MethodName) ({ cls := "Foundrymark$Machine", name := "isFree", desc := "()Z" } : Jvm.MethodName)) ∈ lw_all := lw_g (lw_at lw_m6 22 rfl) rfl
theorem q1262 : (Jvm.Cond.code ({ cls := "Foundrymark$Machine", name := "isFree", desc := "()Z" } : Jvm.MethodName) prog_6_method_3_code (1 : Nat) (Option.some Jvm.ClassFile.FieldType.boolean)) ∈ lw_all := lw_g (lw_at lw_m6 23 rfl) rfl
theorem q1305 : (Jvm.Cond.instanceMethod ({ cls := "Foundrymark$Machine", name := "endsAt", desc := "(I)Z" } : Jvm.MethodName)) ∈ lw_all := lw_g (lw_at lw_m6 66 rfl) rfl
theorem q1306 : (Jvm.Cond.selects "Foundrymark$Machine" ({ cls := "Foundrymark$Machine", name := "endsAt", desc := "(I)Z" } : Jvm.MethodName) ({ cls := "Foundrymark$Machine", name := "endsAt", desc := "(I)Z" } : Jvm.MethodName)) ∈ lw_all := lw_g (lw_at lw_m6 67 rfl) rfl
theorem q1307 : (Jvm.Cond.code ({ cls := "Foundrymark$Machine", name := "endsAt", desc := "(I)Z" } : Jvm.MethodName) prog_6_method_4_code (2 : Nat) (Option.some Jvm.ClassFile.FieldType.boolean)) ∈ lw_all := lw_g (lw_at lw_m6 68 rfl) rfl
theorem q1308 : (Jvm.Cond.methodLink "Foundrymark$Machine" (46 : Nat) ({ cls := "Foundrymark$Machine", name := "isFree", desc := "()Z" } : Jvm.MethodName)) ∈ lw_all := lw_g (lw_at lw_m6 69 rfl) rfl
theorem q1989 : (Jvm.Cond.castable "Foundrymark$Machine" "java/lang/Object") ∈ lw_tbl := lw_at lw_m9 30 rfl
theorem in_X5 : ∀ w ∈ wsX50, w ∈ lw_all := lw_in wsX50 [500, 502, 504, 506, 508, 510, 512, 514, 516, 518, 520, 522] (by decide +kernel) (by decide +kernel)

/-! FoundrymarkModel$Machine -/
set_option maxRecDepth 100000
def RX6 : String := "FoundrymarkModel$Machine"
def TX6 : u_T := fun k => match k with
  | 0 => ("FoundrymarkModel$Machine", "rate", "I", true)
  | 1 => ("FoundrymarkModel$Machine", "setup", "I", true)
  | 2 => ("FoundrymarkModel$Machine", "life", "I", true)
  | 3 => ("FoundrymarkModel$Machine", "repair", "I", true)
  | 4 => ("FoundrymarkModel$Machine", "family", "I", false)
  | 5 => ("FoundrymarkModel$Machine", "wear", "I", false)
  | 6 => ("FoundrymarkModel$Machine", "state", "C", false)
  | 7 => ("FoundrymarkModel$Machine", "ends", "I", false)
  | 8 => ("FoundrymarkModel$Machine", "began", "I", false)
  | 9 => ("FoundrymarkModel$Machine", "order", "LFoundrymarkModel$Order;", false)
  | _ => ("FoundrymarkModel$Machine", "busy", "I", false)
def tyX6 : Nat → FieldType := fun k => match k with
  | 0 => .int
  | 1 => .int
  | 2 => .int
  | 3 => .int
  | 4 => .int
  | 5 => .int
  | 6 => .char
  | 7 => .int
  | 8 => .int
  | 9 => .object "FoundrymarkModel$Order"
  | _ => .int
abbrev wsX60 : List Cond := u_ws RX6 TX6 11
theorem nmX6 : ∀ a, a < 11 → ∀ b, b < 11 → a ≠ b → (TX6 a).2.1 ≠ (TX6 b).2.1 := by decide +kernel
theorem tyX6_ok : ∀ k, k < 11 → parseFieldDescriptor (TX6 k).2.2.1 = some (tyX6 k) := by decide +kernel
abbrev cX6_init : ByteArray := prog_21_method_1_code
def yX6_init : MethodName := ⟨RX6, "<init>", "(IIII)V"⟩
def dkwX6_init_1 : List UInt8 := [181, 0, 20, 42, 29, 181, 0, 23, 42, 21, 4, 181, 0, 26, 177]
abbrev dktX6_init_1 : List UInt8 := dkwX6_init_1 ++ []
def dkwX6_init_0 : List UInt8 := [42, 183, 0, 1, 42, 2, 181, 0, 7, 42, 16, 45, 181, 0, 13, 42, 27, 181, 0, 17, 42, 28]
abbrev dktX6_init_0 : List UInt8 := dkwX6_init_0 ++ dktX6_init_1
theorem dksX6_init_0 : cX6_init.data.toList.drop 0 = dktX6_init_0 := by decide +kernel
theorem dksX6_init_1 : cX6_init.data.toList.drop 22 = dktX6_init_1 := dk_seg dksX6_init_0 22 rfl rfl
theorem dX6_init_0 : decode cX6_init 0 = .ok (.aload_n 0, 1) := dk_42 (dk_at dksX6_init_0 0 rfl rfl)
theorem dX6_init_1 : decode cX6_init 1 = .ok (.invokespecial 1, 3) := dk_183 0 1 (dk_at dksX6_init_0 1 rfl rfl)
theorem dX6_init_4 : decode cX6_init 4 = .ok (.aload_n 0, 1) := dk_42 (dk_at dksX6_init_0 4 rfl rfl)
theorem dX6_init_5 : decode cX6_init 5 = .ok (.iconst (-1), 1) := dk_2 (dk_at dksX6_init_0 5 rfl rfl)
theorem dX6_init_6 : decode cX6_init 6 = .ok (.putfield 7, 3) := dk_181 0 7 (dk_at dksX6_init_0 6 rfl rfl)
theorem dX6_init_9 : decode cX6_init 9 = .ok (.aload_n 0, 1) := dk_42 (dk_at dksX6_init_0 9 rfl rfl)
theorem dX6_init_10 : decode cX6_init 10 = .ok (.bipush 45, 2) := dk_16 45 (dk_at dksX6_init_0 10 rfl rfl)
theorem dX6_init_12 : decode cX6_init 12 = .ok (.putfield 13, 3) := dk_181 0 13 (dk_at dksX6_init_0 12 rfl rfl)
theorem dX6_init_15 : decode cX6_init 15 = .ok (.aload_n 0, 1) := dk_42 (dk_at dksX6_init_0 15 rfl rfl)
theorem dX6_init_16 : decode cX6_init 16 = .ok (.iload_n 1, 1) := dk_27 (dk_at dksX6_init_0 16 rfl rfl)
theorem dX6_init_17 : decode cX6_init 17 = .ok (.putfield 17, 3) := dk_181 0 17 (dk_at dksX6_init_0 17 rfl rfl)
theorem dX6_init_20 : decode cX6_init 20 = .ok (.aload_n 0, 1) := dk_42 (dk_at dksX6_init_0 20 rfl rfl)
theorem dX6_init_21 : decode cX6_init 21 = .ok (.iload_n 2, 1) := dk_28 (dk_at dksX6_init_0 21 rfl rfl)
theorem dX6_init_22 : decode cX6_init 22 = .ok (.putfield 20, 3) := dk_181 0 20 (dk_at dksX6_init_1 0 rfl rfl)
theorem dX6_init_25 : decode cX6_init 25 = .ok (.aload_n 0, 1) := dk_42 (dk_at dksX6_init_1 3 rfl rfl)
theorem dX6_init_26 : decode cX6_init 26 = .ok (.iload_n 3, 1) := dk_29 (dk_at dksX6_init_1 4 rfl rfl)
theorem dX6_init_27 : decode cX6_init 27 = .ok (.putfield 23, 3) := dk_181 0 23 (dk_at dksX6_init_1 5 rfl rfl)
theorem dX6_init_30 : decode cX6_init 30 = .ok (.aload_n 0, 1) := dk_42 (dk_at dksX6_init_1 8 rfl rfl)
theorem dX6_init_31 : decode cX6_init 31 = .ok (.iload 4, 2) := dk_21 4 (dk_at dksX6_init_1 9 rfl rfl)
theorem dX6_init_33 : decode cX6_init 33 = .ok (.putfield 26, 3) := dk_181 0 26 (dk_at dksX6_init_1 11 rfl rfl)
theorem dX6_init_36 : decode cX6_init 36 = .ok (.return_, 1) := dk_177 (dk_at dksX6_init_1 14 rfl rfl)
theorem q60 : (Jvm.Cond.initialized "FoundrymarkModel$Machine") ∈ lw_all := lw_g (lw_at lw_m1 21 rfl) rfl
theorem q574 : (Jvm.Cond.selects "FoundrymarkModel$Machine" ({ cls := "java/lang/Object", name := "getClass", desc := "()Ljava/lang/Class;" } : Jvm.MethodName) ({ cls := "java/lang/Object", name := "getClass", desc := "()Ljava/lang/Class;" } : Jvm.MethodName)) ∈ lw_all := lw_g (lw_at lw_m3 55 rfl) rfl
theorem q1512 : (Jvm.Cond.instantiable "FoundrymarkModel$Machine" (11 : Nat)) ∈ lw_all := lw_g (lw_at lw_m7 33 rfl) rfl
theorem q1514 : (Jvm.Cond.instanceMethod ({ cls := "FoundrymarkModel$Machine", name := "<init>", desc := "(IIII)V" } : Jvm.MethodName)) ∈ lw_all := lw_g (lw_at lw_m7 35 rfl) rfl
theorem q1515 : (Jvm.Cond.code ({ cls := "FoundrymarkModel$Machine", name := "<init>", desc := "(IIII)V" } : Jvm.MethodName) prog_21_method_1_code (5 : Nat) (Option.none : Option Jvm.ClassFile.FieldType)) ∈ lw_all := lw_g (lw_at lw_m7 36 rfl) rfl
theorem q1516 : (Jvm.Cond.methodLink "FoundrymarkModel$Machine" (1 : Nat) ({ cls := "java/lang/Object", name := "<init>", desc := "()V" } : Jvm.MethodName)) ∈ lw_all := lw_g (lw_at lw_m7 37 rfl) rfl
theorem q1517 : (Jvm.Cond.fieldLink "FoundrymarkModel$Machine" (17 : Nat) "FoundrymarkModel$Machine" "rate" "I") ∈ lw_all := lw_g (lw_at lw_m7 38 rfl) rfl
theorem q1519 : (Jvm.Cond.fieldLink "FoundrymarkModel$Machine" (20 : Nat) "FoundrymarkModel$Machine" "setup" "I") ∈ lw_all := lw_g (lw_at lw_m7 40 rfl) rfl
theorem q1521 : (Jvm.Cond.fieldLink "FoundrymarkModel$Machine" (23 : Nat) "FoundrymarkModel$Machine" "life" "I") ∈ lw_all := lw_g (lw_at lw_m7 42 rfl) rfl
theorem q1523 : (Jvm.Cond.fieldLink "FoundrymarkModel$Machine" (26 : Nat) "FoundrymarkModel$Machine" "repair" "I") ∈ lw_all := lw_g (lw_at lw_m7 44 rfl) rfl
theorem q1525 : (Jvm.Cond.fieldLink "FoundrymarkModel$Machine" (7 : Nat) "FoundrymarkModel$Machine" "family" "I") ∈ lw_all := lw_g (lw_at lw_m7 46 rfl) rfl
theorem q1528 : (Jvm.Cond.fieldLink "FoundrymarkModel$Machine" (13 : Nat) "FoundrymarkModel$Machine" "state" "C") ∈ lw_all := lw_g (lw_at lw_m7 49 rfl) rfl
theorem q1534 : (Jvm.Cond.laysFinal "FoundrymarkModel$Machine" "FoundrymarkModel$Machine" "rate" "I") ∈ lw_all := lw_g (lw_at lw_m7 55 rfl) rfl
theorem q1535 : (Jvm.Cond.soleField "FoundrymarkModel$Machine" "rate") ∈ lw_all := lw_g (lw_at lw_m7 56 rfl) rfl
theorem q1536 : (Jvm.Cond.laysFinal "FoundrymarkModel$Machine" "FoundrymarkModel$Machine" "setup" "I") ∈ lw_all := lw_g (lw_at lw_m7 57 rfl) rfl
theorem q1537 : (Jvm.Cond.soleField "FoundrymarkModel$Machine" "setup") ∈ lw_all := lw_g (lw_at lw_m7 58 rfl) rfl
theorem q1538 : (Jvm.Cond.laysFinal "FoundrymarkModel$Machine" "FoundrymarkModel$Machine" "life" "I") ∈ lw_all := lw_g (lw_at lw_m7 59 rfl) rfl
theorem q1539 : (Jvm.Cond.soleField "FoundrymarkModel$Machine" "life") ∈ lw_all := lw_g (lw_at lw_m7 60 rfl) rfl
theorem q1540 : (Jvm.Cond.laysFinal "FoundrymarkModel$Machine" "FoundrymarkModel$Machine" "repair" "I") ∈ lw_all := lw_g (lw_at lw_m7 61 rfl) rfl
theorem q1541 : (Jvm.Cond.soleField "FoundrymarkModel$Machine" "repair") ∈ lw_all := lw_g (lw_at lw_m7 62 rfl) rfl
theorem q1542 : (Jvm.Cond.lays "FoundrymarkModel$Machine" "FoundrymarkModel$Machine" "family" "I") ∈ lw_all := lw_g (lw_at lw_m7 63 rfl) rfl
theorem q1543 : (Jvm.Cond.soleField "FoundrymarkModel$Machine" "family") ∈ lw_all := lw_g (lw_at lw_m7 64 rfl) rfl
theorem q1544 : (Jvm.Cond.lays "FoundrymarkModel$Machine" "FoundrymarkModel$Machine" "wear" "I") ∈ lw_all := lw_g (lw_at lw_m7 65 rfl) rfl
theorem q1545 : (Jvm.Cond.soleField "FoundrymarkModel$Machine" "wear") ∈ lw_all := lw_g (lw_at lw_m7 66 rfl) rfl
theorem q1546 : (Jvm.Cond.lays "FoundrymarkModel$Machine" "FoundrymarkModel$Machine" "state" "C") ∈ lw_all := lw_g (lw_at lw_m7 67 rfl) rfl
theorem q1547 : (Jvm.Cond.soleField "FoundrymarkModel$Machine" "state") ∈ lw_all := lw_g (lw_at lw_m7 68 rfl) rfl
theorem q1548 : (Jvm.Cond.lays "FoundrymarkModel$Machine" "FoundrymarkModel$Machine" "ends" "I") ∈ lw_all := lw_g (lw_at lw_m7 69 rfl) rfl
theorem q1549 : (Jvm.Cond.soleField "FoundrymarkModel$Machine" "ends") ∈ lw_all := lw_g (lw_at lw_m7 70 rfl) rfl
theorem q1550 : (Jvm.Cond.lays "FoundrymarkModel$Machine" "FoundrymarkModel$Machine" "began" "I") ∈ lw_all := lw_g (lw_at lw_m7 71 rfl) rfl
theorem q1551 : (Jvm.Cond.soleField "FoundrymarkModel$Machine" "began") ∈ lw_all := lw_g (lw_at lw_m7 72 rfl) rfl
theorem q1552 : (Jvm.Cond.lays "FoundrymarkModel$Machine" "FoundrymarkModel$Machine" "order" "LFoundrymarkModel$Order;") ∈ lw_all := lw_g (lw_at lw_m7 73 rfl) rfl
theorem q1553 : (Jvm.Cond.soleField "FoundrymarkModel$Machine" "order") ∈ lw_all := lw_g (lw_at lw_m7 74 rfl) rfl
theorem q1554 : (Jvm.Cond.lays "FoundrymarkModel$Machine" "FoundrymarkModel$Machine" "busy" "I") ∈ lw_all := lw_g (lw_at lw_m7 75 rfl) rfl
theorem q1555 : (Jvm.Cond.soleField "FoundrymarkModel$Machine" "busy") ∈ lw_all := lw_g (lw_at lw_m7 76 rfl) rfl
theorem q1556 : (Jvm.Cond.superclass "FoundrymarkModel$Machine" "java/lang/Object") ∈ lw_all := lw_g (lw_at lw_m7 77 rfl) rfl
theorem q1991 : (Jvm.Cond.castable "FoundrymarkModel$Machine" "java/lang/Object") ∈ lw_tbl := lw_at lw_m9 32 rfl
theorem in_X6 : ∀ w ∈ wsX60, w ∈ lw_all := lw_in wsX60 [1534, 1536, 1538, 1540, 1542, 1544, 1546, 1548, 1550, 1552, 1554] (by decide +kernel) (by decide +kernel)

/-! Foundrymark$Part -/
set_option maxRecDepth 100000
def RX7 : String := "Foundrymark$Part"
abbrev cX7_init : ByteArray := prog_10_method_1_code
def yX7_init : MethodName := ⟨RX7, "<init>", "(II)V"⟩
def dkwX7_init_1 : List UInt8 := [181, 0, 21, 177]
abbrev dktX7_init_1 : List UInt8 := dkwX7_init_1 ++ []
def dkwX7_init_0 : List UInt8 := [42, 183, 0, 3, 42, 16, 100, 181, 0, 9, 42, 16, 10, 181, 0, 15, 42, 27, 181, 0, 18, 42, 28]
abbrev dktX7_init_0 : List UInt8 := dkwX7_init_0 ++ dktX7_init_1
theorem dksX7_init_0 : cX7_init.data.toList.drop 0 = dktX7_init_0 := by decide +kernel
theorem dksX7_init_1 : cX7_init.data.toList.drop 23 = dktX7_init_1 := dk_seg dksX7_init_0 23 rfl rfl
theorem dX7_init_0 : decode cX7_init 0 = .ok (.aload_n 0, 1) := dk_42 (dk_at dksX7_init_0 0 rfl rfl)
theorem dX7_init_1 : decode cX7_init 1 = .ok (.invokespecial 3, 3) := dk_183 0 3 (dk_at dksX7_init_0 1 rfl rfl)
theorem dX7_init_4 : decode cX7_init 4 = .ok (.aload_n 0, 1) := dk_42 (dk_at dksX7_init_0 4 rfl rfl)
theorem dX7_init_5 : decode cX7_init 5 = .ok (.bipush 100, 2) := dk_16 100 (dk_at dksX7_init_0 5 rfl rfl)
theorem dX7_init_7 : decode cX7_init 7 = .ok (.putfield 9, 3) := dk_181 0 9 (dk_at dksX7_init_0 7 rfl rfl)
theorem dX7_init_10 : decode cX7_init 10 = .ok (.aload_n 0, 1) := dk_42 (dk_at dksX7_init_0 10 rfl rfl)
theorem dX7_init_11 : decode cX7_init 11 = .ok (.bipush 10, 2) := dk_16 10 (dk_at dksX7_init_0 11 rfl rfl)
theorem dX7_init_13 : decode cX7_init 13 = .ok (.putfield 15, 3) := dk_181 0 15 (dk_at dksX7_init_0 13 rfl rfl)
theorem dX7_init_16 : decode cX7_init 16 = .ok (.aload_n 0, 1) := dk_42 (dk_at dksX7_init_0 16 rfl rfl)
theorem dX7_init_17 : decode cX7_init 17 = .ok (.iload_n 1, 1) := dk_27 (dk_at dksX7_init_0 17 rfl rfl)
theorem dX7_init_18 : decode cX7_init 18 = .ok (.putfield 18, 3) := dk_181 0 18 (dk_at dksX7_init_0 18 rfl rfl)
theorem dX7_init_21 : decode cX7_init 21 = .ok (.aload_n 0, 1) := dk_42 (dk_at dksX7_init_0 21 rfl rfl)
theorem dX7_init_22 : decode cX7_init 22 = .ok (.iload_n 2, 1) := dk_28 (dk_at dksX7_init_0 22 rfl rfl)
theorem dX7_init_23 : decode cX7_init 23 = .ok (.putfield 21, 3) := dk_181 0 21 (dk_at dksX7_init_1 0 rfl rfl)
theorem dX7_init_26 : decode cX7_init 26 = .ok (.return_, 1) := dk_177 (dk_at dksX7_init_1 3 rfl rfl)
abbrev cX7_isOut : ByteArray := prog_10_method_2_code
def yX7_isOut : MethodName := ⟨RX7, "isOut", "(I)Z"⟩
def dkwX7_isOut_3 : List UInt8 := [180, 0, 27, 7, 162, 0, 11, 42, 180, 0, 30, 7, 161, 0, 7, 4, 167, 0, 4, 3, 172]
abbrev dktX7_isOut_3 : List UInt8 := dkwX7_isOut_3 ++ []
def dkwX7_isOut_2 : List UInt8 := [167, 0, 4, 3, 181, 0, 30, 27, 42, 180, 0, 9, 100, 184, 0, 33, 42, 180, 0, 15, 163, 0, 19, 42]
abbrev dktX7_isOut_2 : List UInt8 := dkwX7_isOut_2 ++ dktX7_isOut_3
def dkwX7_isOut_1 : List UInt8 := [96, 167, 0, 4, 3, 181, 0, 27, 42, 27, 42, 180, 0, 9, 162, 0, 12, 42, 180, 0, 30, 4, 96]
abbrev dktX7_isOut_1 : List UInt8 := dkwX7_isOut_1 ++ dktX7_isOut_2
def dkwX7_isOut_0 : List UInt8 := [42, 89, 180, 0, 24, 4, 96, 181, 0, 24, 42, 27, 42, 180, 0, 9, 164, 0, 12, 42, 180, 0, 27, 4]
abbrev dktX7_isOut_0 : List UInt8 := dkwX7_isOut_0 ++ dktX7_isOut_1
theorem dksX7_isOut_0 : cX7_isOut.data.toList.drop 0 = dktX7_isOut_0 := by decide +kernel
theorem dksX7_isOut_1 : cX7_isOut.data.toList.drop 24 = dktX7_isOut_1 := dk_seg dksX7_isOut_0 24 rfl rfl
theorem dksX7_isOut_2 : cX7_isOut.data.toList.drop 47 = dktX7_isOut_2 := dk_seg dksX7_isOut_1 23 rfl rfl
theorem dksX7_isOut_3 : cX7_isOut.data.toList.drop 71 = dktX7_isOut_3 := dk_seg dksX7_isOut_2 24 rfl rfl
theorem dX7_isOut_0 : decode cX7_isOut 0 = .ok (.aload_n 0, 1) := dk_42 (dk_at dksX7_isOut_0 0 rfl rfl)
theorem dX7_isOut_1 : decode cX7_isOut 1 = .ok (.dup, 1) := dk_89 (dk_at dksX7_isOut_0 1 rfl rfl)
theorem dX7_isOut_2 : decode cX7_isOut 2 = .ok (.getfield 24, 3) := dk_180 0 24 (dk_at dksX7_isOut_0 2 rfl rfl)
theorem dX7_isOut_5 : decode cX7_isOut 5 = .ok (.iconst 1, 1) := dk_4 (dk_at dksX7_isOut_0 5 rfl rfl)
theorem dX7_isOut_6 : decode cX7_isOut 6 = .ok (.iadd, 1) := dk_96 (dk_at dksX7_isOut_0 6 rfl rfl)
theorem dX7_isOut_7 : decode cX7_isOut 7 = .ok (.putfield 24, 3) := dk_181 0 24 (dk_at dksX7_isOut_0 7 rfl rfl)
theorem dX7_isOut_10 : decode cX7_isOut 10 = .ok (.aload_n 0, 1) := dk_42 (dk_at dksX7_isOut_0 10 rfl rfl)
theorem dX7_isOut_11 : decode cX7_isOut 11 = .ok (.iload_n 1, 1) := dk_27 (dk_at dksX7_isOut_0 11 rfl rfl)
theorem dX7_isOut_12 : decode cX7_isOut 12 = .ok (.aload_n 0, 1) := dk_42 (dk_at dksX7_isOut_0 12 rfl rfl)
theorem dX7_isOut_13 : decode cX7_isOut 13 = .ok (.getfield 9, 3) := dk_180 0 9 (dk_at dksX7_isOut_0 13 rfl rfl)
theorem dX7_isOut_16 : decode cX7_isOut 16 = .ok (.if_icmp .le 12, 3) := dk_164 0 12 (dk_at dksX7_isOut_0 16 rfl rfl)
theorem dX7_isOut_19 : decode cX7_isOut 19 = .ok (.aload_n 0, 1) := dk_42 (dk_at dksX7_isOut_0 19 rfl rfl)
theorem dX7_isOut_20 : decode cX7_isOut 20 = .ok (.getfield 27, 3) := dk_180 0 27 (dk_at dksX7_isOut_0 20 rfl rfl)
theorem dX7_isOut_23 : decode cX7_isOut 23 = .ok (.iconst 1, 1) := dk_4 (dk_at dksX7_isOut_0 23 rfl rfl)
theorem dX7_isOut_24 : decode cX7_isOut 24 = .ok (.iadd, 1) := dk_96 (dk_at dksX7_isOut_1 0 rfl rfl)
theorem dX7_isOut_25 : decode cX7_isOut 25 = .ok (.goto 4, 3) := dk_167 0 4 (dk_at dksX7_isOut_1 1 rfl rfl)
theorem dX7_isOut_28 : decode cX7_isOut 28 = .ok (.iconst 0, 1) := dk_3 (dk_at dksX7_isOut_1 4 rfl rfl)
theorem dX7_isOut_29 : decode cX7_isOut 29 = .ok (.putfield 27, 3) := dk_181 0 27 (dk_at dksX7_isOut_1 5 rfl rfl)
theorem dX7_isOut_32 : decode cX7_isOut 32 = .ok (.aload_n 0, 1) := dk_42 (dk_at dksX7_isOut_1 8 rfl rfl)
theorem dX7_isOut_33 : decode cX7_isOut 33 = .ok (.iload_n 1, 1) := dk_27 (dk_at dksX7_isOut_1 9 rfl rfl)
theorem dX7_isOut_34 : decode cX7_isOut 34 = .ok (.aload_n 0, 1) := dk_42 (dk_at dksX7_isOut_1 10 rfl rfl)
theorem dX7_isOut_35 : decode cX7_isOut 35 = .ok (.getfield 9, 3) := dk_180 0 9 (dk_at dksX7_isOut_1 11 rfl rfl)
theorem dX7_isOut_38 : decode cX7_isOut 38 = .ok (.if_icmp .ge 12, 3) := dk_162 0 12 (dk_at dksX7_isOut_1 14 rfl rfl)
theorem dX7_isOut_41 : decode cX7_isOut 41 = .ok (.aload_n 0, 1) := dk_42 (dk_at dksX7_isOut_1 17 rfl rfl)
theorem dX7_isOut_42 : decode cX7_isOut 42 = .ok (.getfield 30, 3) := dk_180 0 30 (dk_at dksX7_isOut_1 18 rfl rfl)
theorem dX7_isOut_45 : decode cX7_isOut 45 = .ok (.iconst 1, 1) := dk_4 (dk_at dksX7_isOut_1 21 rfl rfl)
theorem dX7_isOut_46 : decode cX7_isOut 46 = .ok (.iadd, 1) := dk_96 (dk_at dksX7_isOut_1 22 rfl rfl)
theorem dX7_isOut_47 : decode cX7_isOut 47 = .ok (.goto 4, 3) := dk_167 0 4 (dk_at dksX7_isOut_2 0 rfl rfl)
theorem dX7_isOut_50 : decode cX7_isOut 50 = .ok (.iconst 0, 1) := dk_3 (dk_at dksX7_isOut_2 3 rfl rfl)
theorem dX7_isOut_51 : decode cX7_isOut 51 = .ok (.putfield 30, 3) := dk_181 0 30 (dk_at dksX7_isOut_2 4 rfl rfl)
theorem dX7_isOut_54 : decode cX7_isOut 54 = .ok (.iload_n 1, 1) := dk_27 (dk_at dksX7_isOut_2 7 rfl rfl)
theorem dX7_isOut_55 : decode cX7_isOut 55 = .ok (.aload_n 0, 1) := dk_42 (dk_at dksX7_isOut_2 8 rfl rfl)
theorem dX7_isOut_56 : decode cX7_isOut 56 = .ok (.getfield 9, 3) := dk_180 0 9 (dk_at dksX7_isOut_2 9 rfl rfl)
theorem dX7_isOut_59 : decode cX7_isOut 59 = .ok (.isub, 1) := dk_100 (dk_at dksX7_isOut_2 12 rfl rfl)
theorem dX7_isOut_60 : decode cX7_isOut 60 = .ok (.invokestatic 33, 3) := dk_184 0 33 (dk_at dksX7_isOut_2 13 rfl rfl)
theorem dX7_isOut_63 : decode cX7_isOut 63 = .ok (.aload_n 0, 1) := dk_42 (dk_at dksX7_isOut_2 16 rfl rfl)
theorem dX7_isOut_64 : decode cX7_isOut 64 = .ok (.getfield 15, 3) := dk_180 0 15 (dk_at dksX7_isOut_2 17 rfl rfl)
theorem dX7_isOut_67 : decode cX7_isOut 67 = .ok (.if_icmp .gt 19, 3) := dk_163 0 19 (dk_at dksX7_isOut_2 20 rfl rfl)
theorem dX7_isOut_70 : decode cX7_isOut 70 = .ok (.aload_n 0, 1) := dk_42 (dk_at dksX7_isOut_2 23 rfl rfl)
theorem dX7_isOut_71 : decode cX7_isOut 71 = .ok (.getfield 27, 3) := dk_180 0 27 (dk_at dksX7_isOut_3 0 rfl rfl)
theorem dX7_isOut_74 : decode cX7_isOut 74 = .ok (.iconst 4, 1) := dk_7 (dk_at dksX7_isOut_3 3 rfl rfl)
theorem dX7_isOut_75 : decode cX7_isOut 75 = .ok (.if_icmp .ge 11, 3) := dk_162 0 11 (dk_at dksX7_isOut_3 4 rfl rfl)
theorem dX7_isOut_78 : decode cX7_isOut 78 = .ok (.aload_n 0, 1) := dk_42 (dk_at dksX7_isOut_3 7 rfl rfl)
theorem dX7_isOut_79 : decode cX7_isOut 79 = .ok (.getfield 30, 3) := dk_180 0 30 (dk_at dksX7_isOut_3 8 rfl rfl)
theorem dX7_isOut_82 : decode cX7_isOut 82 = .ok (.iconst 4, 1) := dk_7 (dk_at dksX7_isOut_3 11 rfl rfl)
theorem dX7_isOut_83 : decode cX7_isOut 83 = .ok (.if_icmp .lt 7, 3) := dk_161 0 7 (dk_at dksX7_isOut_3 12 rfl rfl)
theorem dX7_isOut_86 : decode cX7_isOut 86 = .ok (.iconst 1, 1) := dk_4 (dk_at dksX7_isOut_3 15 rfl rfl)
theorem dX7_isOut_87 : decode cX7_isOut 87 = .ok (.goto 4, 3) := dk_167 0 4 (dk_at dksX7_isOut_3 16 rfl rfl)
theorem dX7_isOut_90 : decode cX7_isOut 90 = .ok (.iconst 0, 1) := dk_3 (dk_at dksX7_isOut_3 19 rfl rfl)
theorem dX7_isOut_91 : decode cX7_isOut 91 = .ok (.ireturn, 1) := dk_172 (dk_at dksX7_isOut_3 20 rfl rfl)
theorem q61 : (Jvm.Cond.initialized "Foundrymark$Part") ∈ lw_all := lw_g (lw_at lw_m1 22 rfl) rfl
theorem q616 : (Jvm.Cond.instanceMethod ({ cls := "Foundrymark$Part", name := "<init>", desc := "(II)V" } : Jvm.MethodName)) ∈ lw_all := lw_g (lw_at lw_m3 97 rfl) rfl
theorem q617 : (Jvm.Cond.code ({ cls := "Foundrymark$Part", name := "<init>", desc := "(II)V" } : Jvm.MethodName) prog_10_method_1_code (3 : Nat) (Option.none : Option Jvm.ClassFile.FieldType)) ∈ lw_all := lw_g (lw_at lw_m3 98 rfl) rfl
theorem q618 : (Jvm.Cond.methodLink "Foundrymark$Part" (3 : Nat) ({ cls := "java/lang/Object", name := "<init>", desc := "()V" } : Jvm.MethodName)) ∈ lw_all := lw_g (lw_at lw_m3 99 rfl) rfl
theorem q625 : (Jvm.Cond.fieldLink "Foundrymark$Part" (18 : Nat) "Foundrymark$Part" "number" "I") ∈ lw_all := lw_g (lw_at lw_m3 106 rfl) rfl
theorem q627 : (Jvm.Cond.fieldLink "Foundrymark$Part" (21 : Nat) "Foundrymark$Part" "family" "I") ∈ lw_all := lw_g (lw_at lw_m3 108 rfl) rfl
theorem q629 : (Jvm.Cond.fieldLink "Foundrymark$Part" (9 : Nat) "Foundrymark$Part" "centre" "I") ∈ lw_all := lw_g (lw_at lw_m3 110 rfl) rfl
theorem q631 : (Jvm.Cond.fieldLink "Foundrymark$Part" (15 : Nat) "Foundrymark$Part" "width" "I") ∈ lw_all := lw_g (lw_at lw_m3 112 rfl) rfl
theorem q633 : (Jvm.Cond.fieldLink "Foundrymark$Part" (24 : Nat) "Foundrymark$Part" "measured" "I") ∈ lw_all := lw_g (lw_at lw_m3 114 rfl) rfl
theorem q635 : (Jvm.Cond.fieldLink "Foundrymark$Part" (27 : Nat) "Foundrymark$Part" "above" "I") ∈ lw_all := lw_g (lw_at lw_m3 116 rfl) rfl
theorem q637 : (Jvm.Cond.fieldLink "Foundrymark$Part" (30 : Nat) "Foundrymark$Part" "below" "I") ∈ lw_all := lw_g (lw_at lw_m3 118 rfl) rfl
theorem q644 : (Jvm.Cond.soleField "Foundrymark$Part" "number") ∈ lw_all := lw_g (lw_at lw_m3 125 rfl) rfl
theorem q646 : (Jvm.Cond.soleField "Foundrymark$Part" "family") ∈ lw_all := lw_g (lw_at lw_m3 127 rfl) rfl
theorem q648 : (Jvm.Cond.soleField "Foundrymark$Part" "centre") ∈ lw_all := lw_g (lw_at lw_m3 129 rfl) rfl
theorem q650 : (Jvm.Cond.soleField "Foundrymark$Part" "width") ∈ lw_all := lw_g (lw_at lw_m3 131 rfl) rfl
theorem q652 : (Jvm.Cond.soleField "Foundrymark$Part" "measured") ∈ lw_all := lw_g (lw_at lw_m3 133 rfl) rfl
theorem q654 : (Jvm.Cond.soleField "Foundrymark$Part" "above") ∈ lw_all := lw_g (lw_at lw_m3 135 rfl) rfl
theorem q656 : (Jvm.Cond.soleField "Foundrymark$Part" "below") ∈ lw_all := lw_g (lw_at lw_m3 137 rfl) rfl
theorem q935 : (Jvm.Cond.instanceMethod ({ cls := "Foundrymark$Part", name := "isOut", desc := "(I)Z" } : Jvm.MethodName)) ∈ lw_all := lw_g (lw_at lw_m4 176 rfl) rfl
theorem q936 : (Jvm.Cond.sameMethod "Foundrymark$Part" "Foundrymark$Part" "isOut" "(I)Z") ∈ lw_all := lw_g (lw_at lw_m4 177 rfl) rfl
theorem q939 : (Jvm.Cond.code ({ cls := "Foundrymark$Part", name := "isOut", desc := "(I)Z" } : Jvm.MethodName) prog_10_method_2_code (2 : Nat) (Option.some Jvm.ClassFile.FieldType.boolean)) ∈ lw_all := lw_g (lw_at lw_m4 180 rfl) rfl
theorem q940 : (Jvm.Cond.methodLink "Foundrymark$Part" (33 : Nat) ({ cls := "java/lang/Math", name := "abs", desc := "(I)I" } : Jvm.MethodName)) ∈ lw_all := lw_g (lw_at lw_m4 181 rfl) rfl

/-! Foundrymark$Made -/
set_option maxRecDepth 100000
def RX8 : String := "Foundrymark$Made"
def TX8 : u_T := fun k => match k with
  | 0 => ("Foundrymark$Part", "number", "I", true)
  | 1 => ("Foundrymark$Part", "family", "I", true)
  | 2 => ("Foundrymark$Part", "centre", "I", false)
  | 3 => ("Foundrymark$Part", "width", "I", false)
  | 4 => ("Foundrymark$Part", "measured", "I", false)
  | 5 => ("Foundrymark$Part", "above", "I", false)
  | 6 => ("Foundrymark$Part", "below", "I", false)
  | 7 => ("Foundrymark$Made", "components", "Ljava/util/ArrayList;", true)
  | _ => ("Foundrymark$Made", "operations", "Ljava/util/ArrayList;", true)
def tyX8 : Nat → FieldType := fun k => match k with
  | 0 => .int
  | 1 => .int
  | 2 => .int
  | 3 => .int
  | 4 => .int
  | 5 => .int
  | 6 => .int
  | 7 => .object "java/util/ArrayList"
  | _ => .object "java/util/ArrayList"
abbrev wsX80 : List Cond := u_ws RX8 TX8 9
theorem nmX8 : ∀ a, a < 9 → ∀ b, b < 9 → a ≠ b → (TX8 a).2.1 ≠ (TX8 b).2.1 := by decide +kernel
theorem tyX8_ok : ∀ k, k < 9 → parseFieldDescriptor (TX8 k).2.2.1 = some (tyX8 k) := by decide +kernel
abbrev cX8_init : ByteArray := prog_7_method_1_code
def yX8_init : MethodName := ⟨RX8, "<init>", "(II)V"⟩
def dkwX8_init_1 : List UInt8 := [183, 0, 9, 181, 0, 18, 177]
abbrev dktX8_init_1 : List UInt8 := dkwX8_init_1 ++ []
def dkwX8_init_0 : List UInt8 := [42, 27, 28, 183, 0, 1, 42, 187, 0, 7, 89, 183, 0, 9, 181, 0, 12, 42, 187, 0, 7, 89]
abbrev dktX8_init_0 : List UInt8 := dkwX8_init_0 ++ dktX8_init_1
theorem dksX8_init_0 : cX8_init.data.toList.drop 0 = dktX8_init_0 := by decide +kernel
theorem dksX8_init_1 : cX8_init.data.toList.drop 22 = dktX8_init_1 := dk_seg dksX8_init_0 22 rfl rfl
theorem dX8_init_0 : decode cX8_init 0 = .ok (.aload_n 0, 1) := dk_42 (dk_at dksX8_init_0 0 rfl rfl)
theorem dX8_init_1 : decode cX8_init 1 = .ok (.iload_n 1, 1) := dk_27 (dk_at dksX8_init_0 1 rfl rfl)
theorem dX8_init_2 : decode cX8_init 2 = .ok (.iload_n 2, 1) := dk_28 (dk_at dksX8_init_0 2 rfl rfl)
theorem dX8_init_3 : decode cX8_init 3 = .ok (.invokespecial 1, 3) := dk_183 0 1 (dk_at dksX8_init_0 3 rfl rfl)
theorem dX8_init_6 : decode cX8_init 6 = .ok (.aload_n 0, 1) := dk_42 (dk_at dksX8_init_0 6 rfl rfl)
theorem dX8_init_7 : decode cX8_init 7 = .ok (.new 7, 3) := dk_187 0 7 (dk_at dksX8_init_0 7 rfl rfl)
theorem dX8_init_10 : decode cX8_init 10 = .ok (.dup, 1) := dk_89 (dk_at dksX8_init_0 10 rfl rfl)
theorem dX8_init_11 : decode cX8_init 11 = .ok (.invokespecial 9, 3) := dk_183 0 9 (dk_at dksX8_init_0 11 rfl rfl)
theorem dX8_init_14 : decode cX8_init 14 = .ok (.putfield 12, 3) := dk_181 0 12 (dk_at dksX8_init_0 14 rfl rfl)
theorem dX8_init_17 : decode cX8_init 17 = .ok (.aload_n 0, 1) := dk_42 (dk_at dksX8_init_0 17 rfl rfl)
theorem dX8_init_18 : decode cX8_init 18 = .ok (.new 7, 3) := dk_187 0 7 (dk_at dksX8_init_0 18 rfl rfl)
theorem dX8_init_21 : decode cX8_init 21 = .ok (.dup, 1) := dk_89 (dk_at dksX8_init_0 21 rfl rfl)
theorem dX8_init_22 : decode cX8_init 22 = .ok (.invokespecial 9, 3) := dk_183 0 9 (dk_at dksX8_init_1 0 rfl rfl)
theorem dX8_init_25 : decode cX8_init 25 = .ok (.putfield 18, 3) := dk_181 0 18 (dk_at dksX8_init_1 3 rfl rfl)
theorem dX8_init_28 : decode cX8_init 28 = .ok (.return_, 1) := dk_177 (dk_at dksX8_init_1 6 rfl rfl)
theorem q62 : (Jvm.Cond.initialized "Foundrymark$Made") ∈ lw_all := lw_g (lw_at lw_m1 23 rfl) rfl
theorem q563 : (Jvm.Cond.selects "Foundrymark$Made" ({ cls := "java/lang/Object", name := "getClass", desc := "()Ljava/lang/Class;" } : Jvm.MethodName) ({ cls := "java/lang/Object", name := "getClass", desc := "()Ljava/lang/Class;" } : Jvm.MethodName)) ∈ lw_all := lw_g (lw_at lw_m3 44 rfl) rfl
theorem q611 : (Jvm.Cond.instantiable "Foundrymark$Made" (9 : Nat)) ∈ lw_all := lw_g (lw_at lw_m3 92 rfl) rfl
theorem q613 : (Jvm.Cond.instanceMethod ({ cls := "Foundrymark$Made", name := "<init>", desc := "(II)V" } : Jvm.MethodName)) ∈ lw_all := lw_g (lw_at lw_m3 94 rfl) rfl
theorem q614 : (Jvm.Cond.code ({ cls := "Foundrymark$Made", name := "<init>", desc := "(II)V" } : Jvm.MethodName) prog_7_method_1_code (3 : Nat) (Option.none : Option Jvm.ClassFile.FieldType)) ∈ lw_all := lw_g (lw_at lw_m3 95 rfl) rfl
theorem q615 : (Jvm.Cond.methodLink "Foundrymark$Made" (1 : Nat) ({ cls := "Foundrymark$Part", name := "<init>", desc := "(II)V" } : Jvm.MethodName)) ∈ lw_all := lw_g (lw_at lw_m3 96 rfl) rfl
theorem q619 : (Jvm.Cond.classLink "Foundrymark$Made" (7 : Nat) "java/util/ArrayList") ∈ lw_all := lw_g (lw_at lw_m3 100 rfl) rfl
theorem q620 : (Jvm.Cond.methodLink "Foundrymark$Made" (9 : Nat) ({ cls := "java/util/ArrayList", name := "<init>", desc := "()V" } : Jvm.MethodName)) ∈ lw_all := lw_g (lw_at lw_m3 101 rfl) rfl
theorem q621 : (Jvm.Cond.fieldLink "Foundrymark$Made" (12 : Nat) "Foundrymark$Made" "components" "Ljava/util/ArrayList;") ∈ lw_all := lw_g (lw_at lw_m3 102 rfl) rfl
theorem q623 : (Jvm.Cond.fieldLink "Foundrymark$Made" (18 : Nat) "Foundrymark$Made" "operations" "Ljava/util/ArrayList;") ∈ lw_all := lw_g (lw_at lw_m3 104 rfl) rfl
theorem q639 : (Jvm.Cond.laysFinal "Foundrymark$Made" "Foundrymark$Made" "components" "Ljava/util/ArrayList;") ∈ lw_all := lw_g (lw_at lw_m3 120 rfl) rfl
theorem q640 : (Jvm.Cond.soleField "Foundrymark$Made" "components") ∈ lw_all := lw_g (lw_at lw_m3 121 rfl) rfl
theorem q641 : (Jvm.Cond.laysFinal "Foundrymark$Made" "Foundrymark$Made" "operations" "Ljava/util/ArrayList;") ∈ lw_all := lw_g (lw_at lw_m3 122 rfl) rfl
theorem q642 : (Jvm.Cond.soleField "Foundrymark$Made" "operations") ∈ lw_all := lw_g (lw_at lw_m3 123 rfl) rfl
theorem q643 : (Jvm.Cond.laysFinal "Foundrymark$Made" "Foundrymark$Part" "number" "I") ∈ lw_all := lw_g (lw_at lw_m3 124 rfl) rfl
theorem q645 : (Jvm.Cond.laysFinal "Foundrymark$Made" "Foundrymark$Part" "family" "I") ∈ lw_all := lw_g (lw_at lw_m3 126 rfl) rfl
theorem q647 : (Jvm.Cond.lays "Foundrymark$Made" "Foundrymark$Part" "centre" "I") ∈ lw_all := lw_g (lw_at lw_m3 128 rfl) rfl
theorem q649 : (Jvm.Cond.lays "Foundrymark$Made" "Foundrymark$Part" "width" "I") ∈ lw_all := lw_g (lw_at lw_m3 130 rfl) rfl
theorem q651 : (Jvm.Cond.lays "Foundrymark$Made" "Foundrymark$Part" "measured" "I") ∈ lw_all := lw_g (lw_at lw_m3 132 rfl) rfl
theorem q653 : (Jvm.Cond.lays "Foundrymark$Made" "Foundrymark$Part" "above" "I") ∈ lw_all := lw_g (lw_at lw_m3 134 rfl) rfl
theorem q655 : (Jvm.Cond.lays "Foundrymark$Made" "Foundrymark$Part" "below" "I") ∈ lw_all := lw_g (lw_at lw_m3 136 rfl) rfl
theorem q657 : (Jvm.Cond.superclass "Foundrymark$Made" "Foundrymark$Part") ∈ lw_all := lw_g (lw_at lw_m3 138 rfl) rfl
theorem q938 : (Jvm.Cond.selects "Foundrymark$Made" ({ cls := "Foundrymark$Part", name := "isOut", desc := "(I)Z" } : Jvm.MethodName) ({ cls := "Foundrymark$Part", name := "isOut", desc := "(I)Z" } : Jvm.MethodName)) ∈ lw_all := lw_g (lw_at lw_m4 179 rfl) rfl
theorem q1980 : (Jvm.Cond.castable "Foundrymark$Made" "Foundrymark$Part") ∈ lw_tbl := lw_at lw_m9 21 rfl
theorem q1992 : (Jvm.Cond.castable "Foundrymark$Made" "java/lang/Object") ∈ lw_tbl := lw_at lw_m9 33 rfl
theorem in_X8 : ∀ w ∈ wsX80, w ∈ lw_all := lw_in wsX80 [643, 645, 647, 649, 651, 653, 655, 639, 641] (by decide +kernel) (by decide +kernel)

/-! Foundrymark$Bought -/
set_option maxRecDepth 100000
def RX9 : String := "Foundrymark$Bought"
def TX9 : u_T := fun k => match k with
  | 0 => ("Foundrymark$Part", "number", "I", true)
  | 1 => ("Foundrymark$Part", "family", "I", true)
  | 2 => ("Foundrymark$Part", "centre", "I", false)
  | 3 => ("Foundrymark$Part", "width", "I", false)
  | 4 => ("Foundrymark$Part", "measured", "I", false)
  | 5 => ("Foundrymark$Part", "above", "I", false)
  | _ => ("Foundrymark$Part", "below", "I", false)
def tyX9 : Nat → FieldType := fun k => match k with
  | 0 => .int
  | 1 => .int
  | 2 => .int
  | 3 => .int
  | 4 => .int
  | 5 => .int
  | _ => .int
abbrev wsX90 : List Cond := u_ws RX9 TX9 7
theorem nmX9 : ∀ a, a < 7 → ∀ b, b < 7 → a ≠ b → (TX9 a).2.1 ≠ (TX9 b).2.1 := by decide +kernel
theorem tyX9_ok : ∀ k, k < 7 → parseFieldDescriptor (TX9 k).2.2.1 = some (tyX9 k) := by decide +kernel
abbrev cX9_init : ByteArray := prog_2_method_1_code
def yX9_init : MethodName := ⟨RX9, "<init>", "(II)V"⟩
def dkwX9_init_0 : List UInt8 := [42, 27, 28, 183, 0, 1, 177]
abbrev dktX9_init_0 : List UInt8 := dkwX9_init_0 ++ []
theorem dksX9_init_0 : cX9_init.data.toList.drop 0 = dktX9_init_0 := by decide +kernel
theorem dX9_init_0 : decode cX9_init 0 = .ok (.aload_n 0, 1) := dk_42 (dk_at dksX9_init_0 0 rfl rfl)
theorem dX9_init_1 : decode cX9_init 1 = .ok (.iload_n 1, 1) := dk_27 (dk_at dksX9_init_0 1 rfl rfl)
theorem dX9_init_2 : decode cX9_init 2 = .ok (.iload_n 2, 1) := dk_28 (dk_at dksX9_init_0 2 rfl rfl)
theorem dX9_init_3 : decode cX9_init 3 = .ok (.invokespecial 1, 3) := dk_183 0 1 (dk_at dksX9_init_0 3 rfl rfl)
theorem dX9_init_6 : decode cX9_init 6 = .ok (.return_, 1) := dk_177 (dk_at dksX9_init_0 6 rfl rfl)
theorem q63 : (Jvm.Cond.initialized "Foundrymark$Bought") ∈ lw_all := lw_g (lw_at lw_m1 24 rfl) rfl
theorem q558 : (Jvm.Cond.selects "Foundrymark$Bought" ({ cls := "java/lang/Object", name := "getClass", desc := "()Ljava/lang/Class;" } : Jvm.MethodName) ({ cls := "java/lang/Object", name := "getClass", desc := "()Ljava/lang/Class;" } : Jvm.MethodName)) ∈ lw_all := lw_g (lw_at lw_m3 39 rfl) rfl
theorem q659 : (Jvm.Cond.instantiable "Foundrymark$Bought" (7 : Nat)) ∈ lw_all := lw_g (lw_at lw_m3 140 rfl) rfl
theorem q661 : (Jvm.Cond.instanceMethod ({ cls := "Foundrymark$Bought", name := "<init>", desc := "(II)V" } : Jvm.MethodName)) ∈ lw_all := lw_g (lw_at lw_m3 142 rfl) rfl
theorem q662 : (Jvm.Cond.code ({ cls := "Foundrymark$Bought", name := "<init>", desc := "(II)V" } : Jvm.MethodName) prog_2_method_1_code (3 : Nat) (Option.none : Option Jvm.ClassFile.FieldType)) ∈ lw_all := lw_g (lw_at lw_m3 143 rfl) rfl
theorem q663 : (Jvm.Cond.methodLink "Foundrymark$Bought" (1 : Nat) ({ cls := "Foundrymark$Part", name := "<init>", desc := "(II)V" } : Jvm.MethodName)) ∈ lw_all := lw_g (lw_at lw_m3 144 rfl) rfl
theorem q664 : (Jvm.Cond.laysFinal "Foundrymark$Bought" "Foundrymark$Part" "number" "I") ∈ lw_all := lw_g (lw_at lw_m3 145 rfl) rfl
theorem q665 : (Jvm.Cond.laysFinal "Foundrymark$Bought" "Foundrymark$Part" "family" "I") ∈ lw_all := lw_g (lw_at lw_m3 146 rfl) rfl
theorem q666 : (Jvm.Cond.lays "Foundrymark$Bought" "Foundrymark$Part" "centre" "I") ∈ lw_all := lw_g (lw_at lw_m3 147 rfl) rfl
theorem q667 : (Jvm.Cond.lays "Foundrymark$Bought" "Foundrymark$Part" "width" "I") ∈ lw_all := lw_g (lw_at lw_m3 148 rfl) rfl
theorem q668 : (Jvm.Cond.lays "Foundrymark$Bought" "Foundrymark$Part" "measured" "I") ∈ lw_all := lw_g (lw_at lw_m3 149 rfl) rfl
theorem q669 : (Jvm.Cond.lays "Foundrymark$Bought" "Foundrymark$Part" "above" "I") ∈ lw_all := lw_g (lw_at lw_m3 150 rfl) rfl
theorem q670 : (Jvm.Cond.lays "Foundrymark$Bought" "Foundrymark$Part" "below" "I") ∈ lw_all := lw_g (lw_at lw_m3 151 rfl) rfl
theorem q671 : (Jvm.Cond.superclass "Foundrymark$Bought" "Foundrymark$Part") ∈ lw_all := lw_g (lw_at lw_m3 152 rfl) rfl
theorem q937 : (Jvm.Cond.selects "Foundrymark$Bought" ({ cls := "Foundrymark$Part", name := "isOut", desc := "(I)Z" } : Jvm.MethodName) ({ cls := "Foundrymark$Part", name := "isOut", desc := "(I)Z" } : Jvm.MethodName)) ∈ lw_all := lw_g (lw_at lw_m4 178 rfl) rfl
theorem q1979 : (Jvm.Cond.castable "Foundrymark$Bought" "Foundrymark$Part") ∈ lw_tbl := lw_at lw_m9 20 rfl
theorem q1993 : (Jvm.Cond.castable "Foundrymark$Bought" "java/lang/Object") ∈ lw_tbl := lw_at lw_m9 34 rfl
theorem in_X9 : ∀ w ∈ wsX90, w ∈ lw_all := lw_in wsX90 [664, 665, 666, 667, 668, 669, 670] (by decide +kernel) (by decide +kernel)

/-! FoundrymarkModel$Part -/
set_option maxRecDepth 100000
def RX10 : String := "FoundrymarkModel$Part"
def TX10 : u_T := fun k => match k with
  | 0 => ("FoundrymarkModel$Part", "isMade", "Z", true)
  | 1 => ("FoundrymarkModel$Part", "family", "I", true)
  | 2 => ("FoundrymarkModel$Part", "components", "Ljava/util/ArrayList;", true)
  | 3 => ("FoundrymarkModel$Part", "operations", "Ljava/util/ArrayList;", true)
  | 4 => ("FoundrymarkModel$Part", "centre", "I", false)
  | 5 => ("FoundrymarkModel$Part", "width", "I", false)
  | 6 => ("FoundrymarkModel$Part", "above", "I", false)
  | 7 => ("FoundrymarkModel$Part", "below", "I", false)
  | _ => ("FoundrymarkModel$Part", "measured", "I", false)
def tyX10 : Nat → FieldType := fun k => match k with
  | 0 => .boolean
  | 1 => .int
  | 2 => .object "java/util/ArrayList"
  | 3 => .object "java/util/ArrayList"
  | 4 => .int
  | 5 => .int
  | 6 => .int
  | 7 => .int
  | _ => .int
abbrev wsX100 : List Cond := u_ws RX10 TX10 9
theorem nmX10 : ∀ a, a < 9 → ∀ b, b < 9 → a ≠ b → (TX10 a).2.1 ≠ (TX10 b).2.1 := by decide +kernel
theorem tyX10_ok : ∀ k, k < 9 → parseFieldDescriptor (TX10 k).2.2.1 = some (tyX10 k) := by decide +kernel
abbrev cX10_init : ByteArray := prog_23_method_1_code
def yX10_init : MethodName := ⟨RX10, "<init>", "(ZI)V"⟩
def dkwX10_init_2 : List UInt8 := [181, 0, 30, 177]
abbrev dktX10_init_2 : List UInt8 := dkwX10_init_2 ++ []
def dkwX10_init_1 : List UInt8 := [181, 0, 16, 42, 16, 100, 181, 0, 19, 42, 16, 10, 181, 0, 23, 42, 27, 181, 0, 26, 42, 28]
abbrev dktX10_init_1 : List UInt8 := dkwX10_init_1 ++ dktX10_init_2
def dkwX10_init_0 : List UInt8 := [42, 183, 0, 1, 42, 187, 0, 7, 89, 183, 0, 9, 181, 0, 10, 42, 187, 0, 7, 89, 183, 0, 9]
abbrev dktX10_init_0 : List UInt8 := dkwX10_init_0 ++ dktX10_init_1
theorem dksX10_init_0 : cX10_init.data.toList.drop 0 = dktX10_init_0 := by decide +kernel
theorem dksX10_init_1 : cX10_init.data.toList.drop 23 = dktX10_init_1 := dk_seg dksX10_init_0 23 rfl rfl
theorem dksX10_init_2 : cX10_init.data.toList.drop 45 = dktX10_init_2 := dk_seg dksX10_init_1 22 rfl rfl
theorem dX10_init_0 : decode cX10_init 0 = .ok (.aload_n 0, 1) := dk_42 (dk_at dksX10_init_0 0 rfl rfl)
theorem dX10_init_1 : decode cX10_init 1 = .ok (.invokespecial 1, 3) := dk_183 0 1 (dk_at dksX10_init_0 1 rfl rfl)
theorem dX10_init_4 : decode cX10_init 4 = .ok (.aload_n 0, 1) := dk_42 (dk_at dksX10_init_0 4 rfl rfl)
theorem dX10_init_5 : decode cX10_init 5 = .ok (.new 7, 3) := dk_187 0 7 (dk_at dksX10_init_0 5 rfl rfl)
theorem dX10_init_8 : decode cX10_init 8 = .ok (.dup, 1) := dk_89 (dk_at dksX10_init_0 8 rfl rfl)
theorem dX10_init_9 : decode cX10_init 9 = .ok (.invokespecial 9, 3) := dk_183 0 9 (dk_at dksX10_init_0 9 rfl rfl)
theorem dX10_init_12 : decode cX10_init 12 = .ok (.putfield 10, 3) := dk_181 0 10 (dk_at dksX10_init_0 12 rfl rfl)
theorem dX10_init_15 : decode cX10_init 15 = .ok (.aload_n 0, 1) := dk_42 (dk_at dksX10_init_0 15 rfl rfl)
theorem dX10_init_16 : decode cX10_init 16 = .ok (.new 7, 3) := dk_187 0 7 (dk_at dksX10_init_0 16 rfl rfl)
theorem dX10_init_19 : decode cX10_init 19 = .ok (.dup, 1) := dk_89 (dk_at dksX10_init_0 19 rfl rfl)
theorem dX10_init_20 : decode cX10_init 20 = .ok (.invokespecial 9, 3) := dk_183 0 9 (dk_at dksX10_init_0 20 rfl rfl)
theorem dX10_init_23 : decode cX10_init 23 = .ok (.putfield 16, 3) := dk_181 0 16 (dk_at dksX10_init_1 0 rfl rfl)
theorem dX10_init_26 : decode cX10_init 26 = .ok (.aload_n 0, 1) := dk_42 (dk_at dksX10_init_1 3 rfl rfl)
theorem dX10_init_27 : decode cX10_init 27 = .ok (.bipush 100, 2) := dk_16 100 (dk_at dksX10_init_1 4 rfl rfl)
theorem dX10_init_29 : decode cX10_init 29 = .ok (.putfield 19, 3) := dk_181 0 19 (dk_at dksX10_init_1 6 rfl rfl)
theorem dX10_init_32 : decode cX10_init 32 = .ok (.aload_n 0, 1) := dk_42 (dk_at dksX10_init_1 9 rfl rfl)
theorem dX10_init_33 : decode cX10_init 33 = .ok (.bipush 10, 2) := dk_16 10 (dk_at dksX10_init_1 10 rfl rfl)
theorem dX10_init_35 : decode cX10_init 35 = .ok (.putfield 23, 3) := dk_181 0 23 (dk_at dksX10_init_1 12 rfl rfl)
theorem dX10_init_38 : decode cX10_init 38 = .ok (.aload_n 0, 1) := dk_42 (dk_at dksX10_init_1 15 rfl rfl)
theorem dX10_init_39 : decode cX10_init 39 = .ok (.iload_n 1, 1) := dk_27 (dk_at dksX10_init_1 16 rfl rfl)
theorem dX10_init_40 : decode cX10_init 40 = .ok (.putfield 26, 3) := dk_181 0 26 (dk_at dksX10_init_1 17 rfl rfl)
theorem dX10_init_43 : decode cX10_init 43 = .ok (.aload_n 0, 1) := dk_42 (dk_at dksX10_init_1 20 rfl rfl)
theorem dX10_init_44 : decode cX10_init 44 = .ok (.iload_n 2, 1) := dk_28 (dk_at dksX10_init_1 21 rfl rfl)
theorem dX10_init_45 : decode cX10_init 45 = .ok (.putfield 30, 3) := dk_181 0 30 (dk_at dksX10_init_2 0 rfl rfl)
theorem dX10_init_48 : decode cX10_init 48 = .ok (.return_, 1) := dk_177 (dk_at dksX10_init_2 3 rfl rfl)
theorem q64 : (Jvm.Cond.initialized "FoundrymarkModel$Part") ∈ lw_all := lw_g (lw_at lw_m1 25 rfl) rfl
theorem q576 : (Jvm.Cond.selects "FoundrymarkModel$Part" ({ cls := "java/lang/Object", name := "getClass", desc := "()Ljava/lang/Class;" } : Jvm.MethodName) ({ cls := "java/lang/Object", name := "getClass", desc := "()Ljava/lang/Class;" } : Jvm.MethodName)) ∈ lw_all := lw_g (lw_at lw_m3 57 rfl) rfl
theorem q1562 : (Jvm.Cond.instantiable "FoundrymarkModel$Part" (9 : Nat)) ∈ lw_all := lw_g (lw_at lw_m7 83 rfl) rfl
theorem q1564 : (Jvm.Cond.instanceMethod ({ cls := "FoundrymarkModel$Part", name := "<init>", desc := "(ZI)V" } : Jvm.MethodName)) ∈ lw_all := lw_g (lw_at lw_m7 85 rfl) rfl
theorem q1565 : (Jvm.Cond.code ({ cls := "FoundrymarkModel$Part", name := "<init>", desc := "(ZI)V" } : Jvm.MethodName) prog_23_method_1_code (3 : Nat) (Option.none : Option Jvm.ClassFile.FieldType)) ∈ lw_all := lw_g (lw_at lw_m7 86 rfl) rfl
theorem q1566 : (Jvm.Cond.methodLink "FoundrymarkModel$Part" (1 : Nat) ({ cls := "java/lang/Object", name := "<init>", desc := "()V" } : Jvm.MethodName)) ∈ lw_all := lw_g (lw_at lw_m7 87 rfl) rfl
theorem q1567 : (Jvm.Cond.classLink "FoundrymarkModel$Part" (7 : Nat) "java/util/ArrayList") ∈ lw_all := lw_g (lw_at lw_m7 88 rfl) rfl
theorem q1568 : (Jvm.Cond.methodLink "FoundrymarkModel$Part" (9 : Nat) ({ cls := "java/util/ArrayList", name := "<init>", desc := "()V" } : Jvm.MethodName)) ∈ lw_all := lw_g (lw_at lw_m7 89 rfl) rfl
theorem q1569 : (Jvm.Cond.fieldLink "FoundrymarkModel$Part" (26 : Nat) "FoundrymarkModel$Part" "isMade" "Z") ∈ lw_all := lw_g (lw_at lw_m7 90 rfl) rfl
theorem q1571 : (Jvm.Cond.fieldLink "FoundrymarkModel$Part" (30 : Nat) "FoundrymarkModel$Part" "family" "I") ∈ lw_all := lw_g (lw_at lw_m7 92 rfl) rfl
theorem q1573 : (Jvm.Cond.fieldLink "FoundrymarkModel$Part" (10 : Nat) "FoundrymarkModel$Part" "components" "Ljava/util/ArrayList;") ∈ lw_all := lw_g (lw_at lw_m7 94 rfl) rfl
theorem q1575 : (Jvm.Cond.fieldLink "FoundrymarkModel$Part" (16 : Nat) "FoundrymarkModel$Part" "operations" "Ljava/util/ArrayList;") ∈ lw_all := lw_g (lw_at lw_m7 96 rfl) rfl
theorem q1577 : (Jvm.Cond.fieldLink "FoundrymarkModel$Part" (19 : Nat) "FoundrymarkModel$Part" "centre" "I") ∈ lw_all := lw_g (lw_at lw_m7 98 rfl) rfl
theorem q1579 : (Jvm.Cond.fieldLink "FoundrymarkModel$Part" (23 : Nat) "FoundrymarkModel$Part" "width" "I") ∈ lw_all := lw_g (lw_at lw_m7 100 rfl) rfl
theorem q1584 : (Jvm.Cond.laysFinal "FoundrymarkModel$Part" "FoundrymarkModel$Part" "isMade" "Z") ∈ lw_all := lw_g (lw_at lw_m7 105 rfl) rfl
theorem q1585 : (Jvm.Cond.soleField "FoundrymarkModel$Part" "isMade") ∈ lw_all := lw_g (lw_at lw_m7 106 rfl) rfl
theorem q1586 : (Jvm.Cond.laysFinal "FoundrymarkModel$Part" "FoundrymarkModel$Part" "family" "I") ∈ lw_all := lw_g (lw_at lw_m7 107 rfl) rfl
theorem q1587 : (Jvm.Cond.soleField "FoundrymarkModel$Part" "family") ∈ lw_all := lw_g (lw_at lw_m7 108 rfl) rfl
theorem q1588 : (Jvm.Cond.laysFinal "FoundrymarkModel$Part" "FoundrymarkModel$Part" "components" "Ljava/util/ArrayList;") ∈ lw_all := lw_g (lw_at lw_m7 109 rfl) rfl
theorem q1589 : (Jvm.Cond.soleField "FoundrymarkModel$Part" "components") ∈ lw_all := lw_g (lw_at lw_m7 110 rfl) rfl
theorem q1590 : (Jvm.Cond.laysFinal "FoundrymarkModel$Part" "FoundrymarkModel$Part" "operations" "Ljava/util/ArrayList;") ∈ lw_all := lw_g (lw_at lw_m7 111 rfl) rfl
theorem q1591 : (Jvm.Cond.soleField "FoundrymarkModel$Part" "operations") ∈ lw_all := lw_g (lw_at lw_m7 112 rfl) rfl
theorem q1592 : (Jvm.Cond.lays "FoundrymarkModel$Part" "FoundrymarkModel$Part" "centre" "I") ∈ lw_all := lw_g (lw_at lw_m7 113 rfl) rfl
theorem q1593 : (Jvm.Cond.soleField "FoundrymarkModel$Part" "centre") ∈ lw_all := lw_g (lw_at lw_m7 114 rfl) rfl
theorem q1594 : (Jvm.Cond.lays "FoundrymarkModel$Part" "FoundrymarkModel$Part" "width" "I") ∈ lw_all := lw_g (lw_at lw_m7 115 rfl) rfl
theorem q1595 : (Jvm.Cond.soleField "FoundrymarkModel$Part" "width") ∈ lw_all := lw_g (lw_at lw_m7 116 rfl) rfl
theorem q1596 : (Jvm.Cond.lays "FoundrymarkModel$Part" "FoundrymarkModel$Part" "above" "I") ∈ lw_all := lw_g (lw_at lw_m7 117 rfl) rfl
theorem q1597 : (Jvm.Cond.soleField "FoundrymarkModel$Part" "above") ∈ lw_all := lw_g (lw_at lw_m7 118 rfl) rfl
theorem q1598 : (Jvm.Cond.lays "FoundrymarkModel$Part" "FoundrymarkModel$Part" "below" "I") ∈ lw_all := lw_g (lw_at lw_m7 119 rfl) rfl
theorem q1599 : (Jvm.Cond.soleField "FoundrymarkModel$Part" "below") ∈ lw_all := lw_g (lw_at lw_m7 120 rfl) rfl
theorem q1600 : (Jvm.Cond.lays "FoundrymarkModel$Part" "FoundrymarkModel$Part" "measured" "I") ∈ lw_all := lw_g (lw_at lw_m7 121 rfl) rfl
theorem q1601 : (Jvm.Cond.soleField "FoundrymarkModel$Part" "measured") ∈ lw_all := lw_g (lw_at lw_m7 122 rfl) rfl
theorem q1602 : (Jvm.Cond.superclass "FoundrymarkModel$Part" "java/lang/Object") ∈ lw_all := lw_g (lw_at lw_m7 123 rfl) rfl
theorem q1994 : (Jvm.Cond.castable "FoundrymarkModel$Part" "java/lang/Object") ∈ lw_tbl := lw_at lw_m9 35 rfl
theorem in_X10 : ∀ w ∈ wsX100, w ∈ lw_all := lw_in wsX100 [1584, 1586, 1588, 1590, 1592, 1594, 1596, 1598, 1600] (by decide +kernel) (by decide +kernel)

/-! Foundrymark$Component -/
set_option maxRecDepth 100000
def RX11 : String := "Foundrymark$Component"
def TX11 : u_T := fun k => match k with
  | 0 => ("Foundrymark$Component", "part", "I", true)
  | 1 => ("Foundrymark$Component", "pieces", "I", true)
  | _ => ("Foundrymark$Component", "option", "I", true)
def tyX11 : Nat → FieldType := fun k => match k with
  | 0 => .int
  | 1 => .int
  | _ => .int
abbrev wsX110 : List Cond := u_ws RX11 TX11 3
theorem nmX11 : ∀ a, a < 3 → ∀ b, b < 3 → a ≠ b → (TX11 a).2.1 ≠ (TX11 b).2.1 := by decide +kernel
theorem tyX11_ok : ∀ k, k < 3 → parseFieldDescriptor (TX11 k).2.2.1 = some (tyX11 k) := by decide +kernel
abbrev cX11_init : ByteArray := prog_3_method_1_code
def yX11_init : MethodName := ⟨RX11, "<init>", "(III)V"⟩
def dkwX11_init_0 : List UInt8 := [42, 183, 0, 3, 42, 27, 181, 0, 9, 42, 28, 181, 0, 15, 42, 29, 181, 0, 18, 177]
abbrev dktX11_init_0 : List UInt8 := dkwX11_init_0 ++ []
theorem dksX11_init_0 : cX11_init.data.toList.drop 0 = dktX11_init_0 := by decide +kernel
theorem dX11_init_0 : decode cX11_init 0 = .ok (.aload_n 0, 1) := dk_42 (dk_at dksX11_init_0 0 rfl rfl)
theorem dX11_init_1 : decode cX11_init 1 = .ok (.invokespecial 3, 3) := dk_183 0 3 (dk_at dksX11_init_0 1 rfl rfl)
theorem dX11_init_4 : decode cX11_init 4 = .ok (.aload_n 0, 1) := dk_42 (dk_at dksX11_init_0 4 rfl rfl)
theorem dX11_init_5 : decode cX11_init 5 = .ok (.iload_n 1, 1) := dk_27 (dk_at dksX11_init_0 5 rfl rfl)
theorem dX11_init_6 : decode cX11_init 6 = .ok (.putfield 9, 3) := dk_181 0 9 (dk_at dksX11_init_0 6 rfl rfl)
theorem dX11_init_9 : decode cX11_init 9 = .ok (.aload_n 0, 1) := dk_42 (dk_at dksX11_init_0 9 rfl rfl)
theorem dX11_init_10 : decode cX11_init 10 = .ok (.iload_n 2, 1) := dk_28 (dk_at dksX11_init_0 10 rfl rfl)
theorem dX11_init_11 : decode cX11_init 11 = .ok (.putfield 15, 3) := dk_181 0 15 (dk_at dksX11_init_0 11 rfl rfl)
theorem dX11_init_14 : decode cX11_init 14 = .ok (.aload_n 0, 1) := dk_42 (dk_at dksX11_init_0 14 rfl rfl)
theorem dX11_init_15 : decode cX11_init 15 = .ok (.iload_n 3, 1) := dk_29 (dk_at dksX11_init_0 15 rfl rfl)
theorem dX11_init_16 : decode cX11_init 16 = .ok (.putfield 18, 3) := dk_181 0 18 (dk_at dksX11_init_0 16 rfl rfl)
theorem dX11_init_19 : decode cX11_init 19 = .ok (.return_, 1) := dk_177 (dk_at dksX11_init_0 19 rfl rfl)
abbrev cX11_isFor : ByteArray := prog_3_method_2_code
def yX11_isFor : MethodName := ⟨RX11, "isFor", "(I)Z"⟩
def dkwX11_isFor_0 : List UInt8 := [42, 180, 0, 18, 2, 159, 0, 11, 42, 180, 0, 18, 27, 160, 0, 7, 4, 167, 0, 4, 3, 172]
abbrev dktX11_isFor_0 : List UInt8 := dkwX11_isFor_0 ++ []
theorem dksX11_isFor_0 : cX11_isFor.data.toList.drop 0 = dktX11_isFor_0 := by decide +kernel
theorem dX11_isFor_0 : decode cX11_isFor 0 = .ok (.aload_n 0, 1) := dk_42 (dk_at dksX11_isFor_0 0 rfl rfl)
theorem dX11_isFor_1 : decode cX11_isFor 1 = .ok (.getfield 18, 3) := dk_180 0 18 (dk_at dksX11_isFor_0 1 rfl rfl)
theorem dX11_isFor_4 : decode cX11_isFor 4 = .ok (.iconst (-1), 1) := dk_2 (dk_at dksX11_isFor_0 4 rfl rfl)
theorem dX11_isFor_5 : decode cX11_isFor 5 = .ok (.if_icmp .eq 11, 3) := dk_159 0 11 (dk_at dksX11_isFor_0 5 rfl rfl)
theorem dX11_isFor_8 : decode cX11_isFor 8 = .ok (.aload_n 0, 1) := dk_42 (dk_at dksX11_isFor_0 8 rfl rfl)
theorem dX11_isFor_9 : decode cX11_isFor 9 = .ok (.getfield 18, 3) := dk_180 0 18 (dk_at dksX11_isFor_0 9 rfl rfl)
theorem dX11_isFor_12 : decode cX11_isFor 12 = .ok (.iload_n 1, 1) := dk_27 (dk_at dksX11_isFor_0 12 rfl rfl)
theorem dX11_isFor_13 : decode cX11_isFor 13 = .ok (.if_icmp .ne 7, 3) := dk_160 0 7 (dk_at dksX11_isFor_0 13 rfl rfl)
theorem dX11_isFor_16 : decode cX11_isFor 16 = .ok (.iconst 1, 1) := dk_4 (dk_at dksX11_isFor_0 16 rfl rfl)
theorem dX11_isFor_17 : decode cX11_isFor 17 = .ok (.goto 4, 3) := dk_167 0 4 (dk_at dksX11_isFor_0 17 rfl rfl)
theorem dX11_isFor_20 : decode cX11_isFor 20 = .ok (.iconst 0, 1) := dk_3 (dk_at dksX11_isFor_0 20 rfl rfl)
theorem dX11_isFor_21 : decode cX11_isFor 21 = .ok (.ireturn, 1) := dk_172 (dk_at dksX11_isFor_0 21 rfl rfl)
theorem q71 : (Jvm.Cond.initialized "Foundrymark$Component") ∈ lw_all := lw_g (lw_at lw_m1 32 rfl) rfl
theorem q559 : (Jvm.Cond.selects "Foundrymark$Component" ({ cls := "java/lang/Object", name := "getClass", desc := "()Ljava/lang/Class;" } : Jvm.MethodName) ({ cls := "java/lang/Object", name := "getClass", desc := "()Ljava/lang/Class;" } : Jvm.MethodName)) ∈ lw_all := lw_g (lw_at lw_m3 40 rfl) rfl
theorem q737 : (Jvm.Cond.instantiable "Foundrymark$Component" (3 : Nat)) ∈ lw_all := lw_g (lw_at lw_m3 218 rfl) rfl
theorem q739 : (Jvm.Cond.instanceMethod ({ cls := "Foundrymark$Component", name := "<init>", desc := "(III)V" } : Jvm.MethodName)) ∈ lw_all := lw_g (lw_at lw_m3 220 rfl) rfl
theorem q740 : (Jvm.Cond.code ({ cls := "Foundrymark$Component", name := "<init>", desc := "(III)V" } : Jvm.MethodName) prog_3_method_1_code (4 : Nat) (Option.none : Option Jvm.ClassFile.FieldType)) ∈ lw_all := lw_g (lw_at lw_m3 221 rfl) rfl
theorem q741 : (Jvm.Cond.methodLink "Foundrymark$Component" (3 : Nat) ({ cls := "java/lang/Object", name := "<init>", desc := "()V" } : Jvm.MethodName)) ∈ lw_all := lw_g (lw_at lw_m3 222 rfl) rfl
theorem q742 : (Jvm.Cond.fieldLink "Foundrymark$Component" (9 : Nat) "Foundrymark$Component" "part" "I") ∈ lw_all := lw_g (lw_at lw_m3 223 rfl) rfl
theorem q744 : (Jvm.Cond.fieldLink "Foundrymark$Component" (15 : Nat) "Foundrymark$Component" "pieces" "I") ∈ lw_all := lw_g (lw_at lw_m3 225 rfl) rfl
theorem q746 : (Jvm.Cond.fieldLink "Foundrymark$Component" (18 : Nat) "Foundrymark$Component" "option" "I") ∈ lw_all := lw_g (lw_at lw_m3 227 rfl) rfl
theorem q747 : (Jvm.Cond.laysFinal "Foundrymark$Component" "Foundrymark$Component" "part" "I") ∈ lw_all := lw_g (lw_at lw_m3 228 rfl) rfl
theorem q748 : (Jvm.Cond.soleField "Foundrymark$Component" "part") ∈ lw_all := lw_g (lw_at lw_m3 229 rfl) rfl
theorem q749 : (Jvm.Cond.laysFinal "Foundrymark$Component" "Foundrymark$Component" "pieces" "I") ∈ lw_all := lw_g (lw_at lw_m3 230 rfl) rfl
theorem q750 : (Jvm.Cond.soleField "Foundrymark$Component" "pieces") ∈ lw_all := lw_g (lw_at lw_m3 231 rfl) rfl
theorem q751 : (Jvm.Cond.laysFinal "Foundrymark$Component" "Foundrymark$Component" "option" "I") ∈ lw_all := lw_g (lw_at lw_m3 232 rfl) rfl
theorem q752 : (Jvm.Cond.soleField "Foundrymark$Component" "option") ∈ lw_all := lw_g (lw_at lw_m3 233 rfl) rfl
theorem q753 : (Jvm.Cond.superclass "Foundrymark$Component" "java/lang/Object") ∈ lw_all := lw_g (lw_at lw_m3 234 rfl) rfl
theorem q1053 : (Jvm.Cond.instanceMethod ({ cls := "Foundrymark$Component", name := "isFor", desc := "(I)Z" } : Jvm.MethodName)) ∈ lw_all := lw_g (lw_at lw_m5 54 rfl) rfl
theorem q1054 : (Jvm.Cond.selects "Foundrymark$Component" ({ cls := "Foundrymark$Component", name := "isFor", desc := "(I)Z" } : Jvm.MethodName) ({ cls := "Foundrymark$Component", name := "isFor", desc := "(I)Z" } : Jvm.MethodName)) ∈ lw_all := lw_g (lw_at lw_m5 55 rfl) rfl
theorem q1055 : (Jvm.Cond.code ({ cls := "Foundrymark$Component", name := "isFor", desc := "(I)Z" } : Jvm.MethodName) prog_3_method_2_code (2 : Nat) (Option.some Jvm.ClassFile.FieldType.boolean)) ∈ lw_all := lw_g (lw_at lw_m5 56 rfl) rfl
theorem q1998 : (Jvm.Cond.castable "Foundrymark$Component" "java/lang/Object") ∈ lw_tbl := lw_at lw_m9 39 rfl
theorem in_X11 : ∀ w ∈ wsX110, w ∈ lw_all := lw_in wsX110 [747, 749, 751] (by decide +kernel) (by decide +kernel)

/-! Foundrymark$Operation -/
set_option maxRecDepth 100000
def RX12 : String := "Foundrymark$Operation"
def TX12 : u_T := fun k => match k with
  | 0 => ("Foundrymark$Operation", "machine", "I", true)
  | 1 => ("Foundrymark$Operation", "alternative", "I", true)
  | _ => ("Foundrymark$Operation", "time", "I", true)
def tyX12 : Nat → FieldType := fun k => match k with
  | 0 => .int
  | 1 => .int
  | _ => .int
abbrev wsX120 : List Cond := u_ws RX12 TX12 3
theorem nmX12 : ∀ a, a < 3 → ∀ b, b < 3 → a ≠ b → (TX12 a).2.1 ≠ (TX12 b).2.1 := by decide +kernel
theorem tyX12_ok : ∀ k, k < 3 → parseFieldDescriptor (TX12 k).2.2.1 = some (tyX12 k) := by decide +kernel
abbrev cX12_init : ByteArray := prog_8_method_1_code
def yX12_init : MethodName := ⟨RX12, "<init>", "(III)V"⟩
def dkwX12_init_0 : List UInt8 := [42, 183, 0, 1, 42, 27, 181, 0, 7, 42, 28, 181, 0, 13, 42, 29, 181, 0, 16, 177]
abbrev dktX12_init_0 : List UInt8 := dkwX12_init_0 ++ []
theorem dksX12_init_0 : cX12_init.data.toList.drop 0 = dktX12_init_0 := by decide +kernel
theorem dX12_init_0 : decode cX12_init 0 = .ok (.aload_n 0, 1) := dk_42 (dk_at dksX12_init_0 0 rfl rfl)
theorem dX12_init_1 : decode cX12_init 1 = .ok (.invokespecial 1, 3) := dk_183 0 1 (dk_at dksX12_init_0 1 rfl rfl)
theorem dX12_init_4 : decode cX12_init 4 = .ok (.aload_n 0, 1) := dk_42 (dk_at dksX12_init_0 4 rfl rfl)
theorem dX12_init_5 : decode cX12_init 5 = .ok (.iload_n 1, 1) := dk_27 (dk_at dksX12_init_0 5 rfl rfl)
theorem dX12_init_6 : decode cX12_init 6 = .ok (.putfield 7, 3) := dk_181 0 7 (dk_at dksX12_init_0 6 rfl rfl)
theorem dX12_init_9 : decode cX12_init 9 = .ok (.aload_n 0, 1) := dk_42 (dk_at dksX12_init_0 9 rfl rfl)
theorem dX12_init_10 : decode cX12_init 10 = .ok (.iload_n 2, 1) := dk_28 (dk_at dksX12_init_0 10 rfl rfl)
theorem dX12_init_11 : decode cX12_init 11 = .ok (.putfield 13, 3) := dk_181 0 13 (dk_at dksX12_init_0 11 rfl rfl)
theorem dX12_init_14 : decode cX12_init 14 = .ok (.aload_n 0, 1) := dk_42 (dk_at dksX12_init_0 14 rfl rfl)
theorem dX12_init_15 : decode cX12_init 15 = .ok (.iload_n 3, 1) := dk_29 (dk_at dksX12_init_0 15 rfl rfl)
theorem dX12_init_16 : decode cX12_init 16 = .ok (.putfield 16, 3) := dk_181 0 16 (dk_at dksX12_init_0 16 rfl rfl)
theorem dX12_init_19 : decode cX12_init 19 = .ok (.return_, 1) := dk_177 (dk_at dksX12_init_0 19 rfl rfl)
theorem q72 : (Jvm.Cond.initialized "Foundrymark$Operation") ∈ lw_all := lw_g (lw_at lw_m1 33 rfl) rfl
theorem q564 : (Jvm.Cond.selects "Foundrymark$Operation" ({ cls := "java/lang/Object", name := "getClass", desc := "()Ljava/lang/Class;" } : Jvm.MethodName) ({ cls := "java/lang/Object", name := "getClass", desc := "()Ljava/lang/Class;" } : Jvm.MethodName)) ∈ lw_all := lw_g (lw_at lw_m3 45 rfl) rfl
theorem q766 : (Jvm.Cond.instantiable "Foundrymark$Operation" (3 : Nat)) ∈ lw_all := lw_g (lw_at lw_m4 7 rfl) rfl
theorem q768 : (Jvm.Cond.instanceMethod ({ cls := "Foundrymark$Operation", name := "<init>", desc := "(III)V" } : Jvm.MethodName)) ∈ lw_all := lw_g (lw_at lw_m4 9 rfl) rfl
theorem q769 : (Jvm.Cond.code ({ cls := "Foundrymark$Operation", name := "<init>", desc := "(III)V" } : Jvm.MethodName) prog_8_method_1_code (4 : Nat) (Option.none : Option Jvm.ClassFile.FieldType)) ∈ lw_all := lw_g (lw_at lw_m4 10 rfl) rfl
theorem q770 : (Jvm.Cond.methodLink "Foundrymark$Operation" (1 : Nat) ({ cls := "java/lang/Object", name := "<init>", desc := "()V" } : Jvm.MethodName)) ∈ lw_all := lw_g (lw_at lw_m4 11 rfl) rfl
theorem q771 : (Jvm.Cond.fieldLink "Foundrymark$Operation" (7 : Nat) "Foundrymark$Operation" "machine" "I") ∈ lw_all := lw_g (lw_at lw_m4 12 rfl) rfl
theorem q773 : (Jvm.Cond.fieldLink "Foundrymark$Operation" (13 : Nat) "Foundrymark$Operation" "alternative" "I") ∈ lw_all := lw_g (lw_at lw_m4 14 rfl) rfl
theorem q775 : (Jvm.Cond.fieldLink "Foundrymark$Operation" (16 : Nat) "Foundrymark$Operation" "time" "I") ∈ lw_all := lw_g (lw_at lw_m4 16 rfl) rfl
theorem q777 : (Jvm.Cond.laysFinal "Foundrymark$Operation" "Foundrymark$Operation" "machine" "I") ∈ lw_all := lw_g (lw_at lw_m4 18 rfl) rfl
theorem q778 : (Jvm.Cond.soleField "Foundrymark$Operation" "machine") ∈ lw_all := lw_g (lw_at lw_m4 19 rfl) rfl
theorem q779 : (Jvm.Cond.laysFinal "Foundrymark$Operation" "Foundrymark$Operation" "alternative" "I") ∈ lw_all := lw_g (lw_at lw_m4 20 rfl) rfl
theorem q780 : (Jvm.Cond.soleField "Foundrymark$Operation" "alternative") ∈ lw_all := lw_g (lw_at lw_m4 21 rfl) rfl
theorem q781 : (Jvm.Cond.laysFinal "Foundrymark$Operation" "Foundrymark$Operation" "time" "I") ∈ lw_all := lw_g (lw_at lw_m4 22 rfl) rfl
theorem q782 : (Jvm.Cond.soleField "Foundrymark$Operation" "time") ∈ lw_all := lw_g (lw_at lw_m4 23 rfl) rfl
theorem q783 : (Jvm.Cond.superclass "Foundrymark$Operation" "java/lang/Object") ∈ lw_all := lw_g (lw_at lw_m4 24 rfl) rfl
theorem q1999 : (Jvm.Cond.castable "Foundrymark$Operation" "java/lang/Object") ∈ lw_tbl := lw_at lw_m9 40 rfl
theorem in_X12 : ∀ w ∈ wsX120, w ∈ lw_all := lw_in wsX120 [777, 779, 781] (by decide +kernel) (by decide +kernel)

/-! Foundrymark$Lot -/
set_option maxRecDepth 100000
def RX13 : String := "Foundrymark$Lot"
def TX13 : u_T := fun k => match k with
  | 0 => ("Foundrymark$Lot", "number", "I", true)
  | 1 => ("Foundrymark$Lot", "part", "LFoundrymark$Part;", true)
  | 2 => ("Foundrymark$Lot", "quantity", "I", true)
  | 3 => ("Foundrymark$Lot", "madeOf", "Ljava/util/ArrayList;", true)
  | 4 => ("Foundrymark$Lot", "rest", "I", false)
  | 5 => ("Foundrymark$Lot", "reserved", "I", false)
  | 6 => ("Foundrymark$Lot", "cost", "J", false)
  | _ => ("Foundrymark$Lot", "isOnHold", "Z", false)
def tyX13 : Nat → FieldType := fun k => match k with
  | 0 => .int
  | 1 => .object "Foundrymark$Part"
  | 2 => .int
  | 3 => .object "java/util/ArrayList"
  | 4 => .int
  | 5 => .int
  | 6 => .long
  | _ => .boolean
abbrev wsX130 : List Cond := u_ws RX13 TX13 8
theorem nmX13 : ∀ a, a < 8 → ∀ b, b < 8 → a ≠ b → (TX13 a).2.1 ≠ (TX13 b).2.1 := by decide +kernel
theorem tyX13_ok : ∀ k, k < 8 → parseFieldDescriptor (TX13 k).2.2.1 = some (tyX13 k) := by decide +kernel
abbrev cX13_isOf : ByteArray := prog_5_method_3_code
def yX13_isOf : MethodName := ⟨RX13, "isOf", "(LFoundrymark$Lot;)Z"⟩
def dkwX13_isOf_2 : List UInt8 := [25, 4, 180, 0, 53, 43, 182, 0, 60, 153, 0, 7, 4, 167, 0, 4, 3, 61, 167, 255, 205, 28, 172]
abbrev dktX13_isOf_2 : List UInt8 := dkwX13_isOf_2 ++ []
def dkwX13_isOf_1 : List UInt8 := [185, 0, 47, 1, 0, 192, 0, 51, 58, 4, 28, 154, 0, 24, 25, 4, 180, 0, 53, 43, 165, 0, 15]
abbrev dktX13_isOf_1 : List UInt8 := dkwX13_isOf_1 ++ dktX13_isOf_2
def dkwX13_isOf_0 : List UInt8 := [3, 61, 42, 180, 0, 27, 182, 0, 35, 78, 45, 185, 0, 41, 1, 0, 153, 0, 48, 45]
abbrev dktX13_isOf_0 : List UInt8 := dkwX13_isOf_0 ++ dktX13_isOf_1
theorem dksX13_isOf_0 : cX13_isOf.data.toList.drop 0 = dktX13_isOf_0 := by decide +kernel
theorem dksX13_isOf_1 : cX13_isOf.data.toList.drop 20 = dktX13_isOf_1 := dk_seg dksX13_isOf_0 20 rfl rfl
theorem dksX13_isOf_2 : cX13_isOf.data.toList.drop 43 = dktX13_isOf_2 := dk_seg dksX13_isOf_1 23 rfl rfl
theorem dX13_isOf_0 : decode cX13_isOf 0 = .ok (.iconst 0, 1) := dk_3 (dk_at dksX13_isOf_0 0 rfl rfl)
theorem dX13_isOf_1 : decode cX13_isOf 1 = .ok (.istore_n 2, 1) := dk_61 (dk_at dksX13_isOf_0 1 rfl rfl)
theorem dX13_isOf_2 : decode cX13_isOf 2 = .ok (.aload_n 0, 1) := dk_42 (dk_at dksX13_isOf_0 2 rfl rfl)
theorem dX13_isOf_3 : decode cX13_isOf 3 = .ok (.getfield 27, 3) := dk_180 0 27 (dk_at dksX13_isOf_0 3 rfl rfl)
theorem dX13_isOf_6 : decode cX13_isOf 6 = .ok (.invokevirtual 35, 3) := dk_182 0 35 (dk_at dksX13_isOf_0 6 rfl rfl)
theorem dX13_isOf_9 : decode cX13_isOf 9 = .ok (.astore_n 3, 1) := dk_78 (dk_at dksX13_isOf_0 9 rfl rfl)
theorem dX13_isOf_10 : decode cX13_isOf 10 = .ok (.aload_n 3, 1) := dk_45 (dk_at dksX13_isOf_0 10 rfl rfl)
theorem dX13_isOf_11 : decode cX13_isOf 11 = .ok (.invokeinterface 41 1, 5) := by decide +kernel
theorem dX13_isOf_16 : decode cX13_isOf 16 = .ok (.ifCond .eq 48, 3) := dk_153 0 48 (dk_at dksX13_isOf_0 16 rfl rfl)
theorem dX13_isOf_19 : decode cX13_isOf 19 = .ok (.aload_n 3, 1) := dk_45 (dk_at dksX13_isOf_0 19 rfl rfl)
theorem dX13_isOf_20 : decode cX13_isOf 20 = .ok (.invokeinterface 47 1, 5) := by decide +kernel
theorem dX13_isOf_25 : decode cX13_isOf 25 = .ok (.checkcast 51, 3) := dk_192 0 51 (dk_at dksX13_isOf_1 5 rfl rfl)
theorem dX13_isOf_28 : decode cX13_isOf 28 = .ok (.astore 4, 2) := dk_58 4 (dk_at dksX13_isOf_1 8 rfl rfl)
theorem dX13_isOf_30 : decode cX13_isOf 30 = .ok (.iload_n 2, 1) := dk_28 (dk_at dksX13_isOf_1 10 rfl rfl)
theorem dX13_isOf_31 : decode cX13_isOf 31 = .ok (.ifCond .ne 24, 3) := dk_154 0 24 (dk_at dksX13_isOf_1 11 rfl rfl)
theorem dX13_isOf_34 : decode cX13_isOf 34 = .ok (.aload 4, 2) := dk_25 4 (dk_at dksX13_isOf_1 14 rfl rfl)
theorem dX13_isOf_36 : decode cX13_isOf 36 = .ok (.getfield 53, 3) := dk_180 0 53 (dk_at dksX13_isOf_1 16 rfl rfl)
theorem dX13_isOf_39 : decode cX13_isOf 39 = .ok (.aload_n 1, 1) := dk_43 (dk_at dksX13_isOf_1 19 rfl rfl)
theorem dX13_isOf_40 : decode cX13_isOf 40 = .ok (.if_acmp .eq 15, 3) := dk_165 0 15 (dk_at dksX13_isOf_1 20 rfl rfl)
theorem dX13_isOf_43 : decode cX13_isOf 43 = .ok (.aload 4, 2) := dk_25 4 (dk_at dksX13_isOf_2 0 rfl rfl)
theorem dX13_isOf_45 : decode cX13_isOf 45 = .ok (.getfield 53, 3) := dk_180 0 53 (dk_at dksX13_isOf_2 2 rfl rfl)
theorem dX13_isOf_48 : decode cX13_isOf 48 = .ok (.aload_n 1, 1) := dk_43 (dk_at dksX13_isOf_2 5 rfl rfl)
theorem dX13_isOf_49 : decode cX13_isOf 49 = .ok (.invokevirtual 60, 3) := dk_182 0 60 (dk_at dksX13_isOf_2 6 rfl rfl)
theorem dX13_isOf_52 : decode cX13_isOf 52 = .ok (.ifCond .eq 7, 3) := dk_153 0 7 (dk_at dksX13_isOf_2 9 rfl rfl)
theorem dX13_isOf_55 : decode cX13_isOf 55 = .ok (.iconst 1, 1) := dk_4 (dk_at dksX13_isOf_2 12 rfl rfl)
theorem dX13_isOf_56 : decode cX13_isOf 56 = .ok (.goto 4, 3) := dk_167 0 4 (dk_at dksX13_isOf_2 13 rfl rfl)
theorem dX13_isOf_59 : decode cX13_isOf 59 = .ok (.iconst 0, 1) := dk_3 (dk_at dksX13_isOf_2 16 rfl rfl)
theorem dX13_isOf_60 : decode cX13_isOf 60 = .ok (.istore_n 2, 1) := dk_61 (dk_at dksX13_isOf_2 17 rfl rfl)
theorem dX13_isOf_61 : decode cX13_isOf 61 = .ok (.goto (-51), 3) := dk_167 255 205 (dk_at dksX13_isOf_2 18 rfl rfl)
theorem dX13_isOf_64 : decode cX13_isOf 64 = .ok (.iload_n 2, 1) := dk_28 (dk_at dksX13_isOf_2 21 rfl rfl)
theorem dX13_isOf_65 : decode cX13_isOf 65 = .ok (.ireturn, 1) := dk_172 (dk_at dksX13_isOf_2 22 rfl rfl)
abbrev cX13_isHeld : ByteArray := prog_5_method_2_code
def yX13_isHeld : MethodName := ⟨RX13, "isHeld", "()Z"⟩
def dkwX13_isHeld_2 : List UInt8 := [167, 0, 4, 3, 60, 167, 255, 217, 27, 172]
abbrev dktX13_isHeld_2 : List UInt8 := dkwX13_isHeld_2 ++ []
def dkwX13_isHeld_1 : List UInt8 := [185, 0, 47, 1, 0, 192, 0, 51, 78, 27, 154, 0, 13, 45, 180, 0, 53, 182, 0, 57, 153, 0, 7, 4]
abbrev dktX13_isHeld_1 : List UInt8 := dkwX13_isHeld_1 ++ dktX13_isHeld_2
def dkwX13_isHeld_0 : List UInt8 := [42, 180, 0, 31, 60, 42, 180, 0, 27, 182, 0, 35, 77, 44, 185, 0, 41, 1, 0, 153, 0, 36, 44]
abbrev dktX13_isHeld_0 : List UInt8 := dkwX13_isHeld_0 ++ dktX13_isHeld_1
theorem dksX13_isHeld_0 : cX13_isHeld.data.toList.drop 0 = dktX13_isHeld_0 := by decide +kernel
theorem dksX13_isHeld_1 : cX13_isHeld.data.toList.drop 23 = dktX13_isHeld_1 := dk_seg dksX13_isHeld_0 23 rfl rfl
theorem dksX13_isHeld_2 : cX13_isHeld.data.toList.drop 47 = dktX13_isHeld_2 := dk_seg dksX13_isHeld_1 24 rfl rfl
theorem dX13_isHeld_0 : decode cX13_isHeld 0 = .ok (.aload_n 0, 1) := dk_42 (dk_at dksX13_isHeld_0 0 rfl rfl)
theorem dX13_isHeld_1 : decode cX13_isHeld 1 = .ok (.getfield 31, 3) := dk_180 0 31 (dk_at dksX13_isHeld_0 1 rfl rfl)
theorem dX13_isHeld_4 : decode cX13_isHeld 4 = .ok (.istore_n 1, 1) := dk_60 (dk_at dksX13_isHeld_0 4 rfl rfl)
theorem dX13_isHeld_5 : decode cX13_isHeld 5 = .ok (.aload_n 0, 1) := dk_42 (dk_at dksX13_isHeld_0 5 rfl rfl)
theorem dX13_isHeld_6 : decode cX13_isHeld 6 = .ok (.getfield 27, 3) := dk_180 0 27 (dk_at dksX13_isHeld_0 6 rfl rfl)
theorem dX13_isHeld_9 : decode cX13_isHeld 9 = .ok (.invokevirtual 35, 3) := dk_182 0 35 (dk_at dksX13_isHeld_0 9 rfl rfl)
theorem dX13_isHeld_12 : decode cX13_isHeld 12 = .ok (.astore_n 2, 1) := dk_77 (dk_at dksX13_isHeld_0 12 rfl rfl)
theorem dX13_isHeld_13 : decode cX13_isHeld 13 = .ok (.aload_n 2, 1) := dk_44 (dk_at dksX13_isHeld_0 13 rfl rfl)
theorem dX13_isHeld_14 : decode cX13_isHeld 14 = .ok (.invokeinterface 41 1, 5) := by decide +kernel
theorem dX13_isHeld_19 : decode cX13_isHeld 19 = .ok (.ifCond .eq 36, 3) := dk_153 0 36 (dk_at dksX13_isHeld_0 19 rfl rfl)
theorem dX13_isHeld_22 : decode cX13_isHeld 22 = .ok (.aload_n 2, 1) := dk_44 (dk_at dksX13_isHeld_0 22 rfl rfl)
theorem dX13_isHeld_23 : decode cX13_isHeld 23 = .ok (.invokeinterface 47 1, 5) := by decide +kernel
theorem dX13_isHeld_28 : decode cX13_isHeld 28 = .ok (.checkcast 51, 3) := dk_192 0 51 (dk_at dksX13_isHeld_1 5 rfl rfl)
theorem dX13_isHeld_31 : decode cX13_isHeld 31 = .ok (.astore_n 3, 1) := dk_78 (dk_at dksX13_isHeld_1 8 rfl rfl)
theorem dX13_isHeld_32 : decode cX13_isHeld 32 = .ok (.iload_n 1, 1) := dk_27 (dk_at dksX13_isHeld_1 9 rfl rfl)
theorem dX13_isHeld_33 : decode cX13_isHeld 33 = .ok (.ifCond .ne 13, 3) := dk_154 0 13 (dk_at dksX13_isHeld_1 10 rfl rfl)
theorem dX13_isHeld_36 : decode cX13_isHeld 36 = .ok (.aload_n 3, 1) := dk_45 (dk_at dksX13_isHeld_1 13 rfl rfl)
theorem dX13_isHeld_37 : decode cX13_isHeld 37 = .ok (.getfield 53, 3) := dk_180 0 53 (dk_at dksX13_isHeld_1 14 rfl rfl)
theorem dX13_isHeld_40 : decode cX13_isHeld 40 = .ok (.invokevirtual 57, 3) := dk_182 0 57 (dk_at dksX13_isHeld_1 17 rfl rfl)
theorem dX13_isHeld_43 : decode cX13_isHeld 43 = .ok (.ifCond .eq 7, 3) := dk_153 0 7 (dk_at dksX13_isHeld_1 20 rfl rfl)
theorem dX13_isHeld_46 : decode cX13_isHeld 46 = .ok (.iconst 1, 1) := dk_4 (dk_at dksX13_isHeld_1 23 rfl rfl)
theorem dX13_isHeld_47 : decode cX13_isHeld 47 = .ok (.goto 4, 3) := dk_167 0 4 (dk_at dksX13_isHeld_2 0 rfl rfl)
theorem dX13_isHeld_50 : decode cX13_isHeld 50 = .ok (.iconst 0, 1) := dk_3 (dk_at dksX13_isHeld_2 3 rfl rfl)
theorem dX13_isHeld_51 : decode cX13_isHeld 51 = .ok (.istore_n 1, 1) := dk_60 (dk_at dksX13_isHeld_2 4 rfl rfl)
theorem dX13_isHeld_52 : decode cX13_isHeld 52 = .ok (.goto (-39), 3) := dk_167 255 217 (dk_at dksX13_isHeld_2 5 rfl rfl)
theorem dX13_isHeld_55 : decode cX13_isHeld 55 = .ok (.iload_n 1, 1) := dk_27 (dk_at dksX13_isHeld_2 8 rfl rfl)
theorem dX13_isHeld_56 : decode cX13_isHeld 56 = .ok (.ireturn, 1) := dk_172 (dk_at dksX13_isHeld_2 9 rfl rfl)
abbrev cX13_init : ByteArray := prog_5_method_1_code
def yX13_init : MethodName := ⟨RX13, "<init>", "(ILFoundrymark$Part;IJLjava/util/ArrayList;)V"⟩
def dkwX13_init_1 : List UInt8 := [42, 22, 4, 181, 0, 23, 42, 25, 6, 181, 0, 27, 177]
abbrev dktX13_init_1 : List UInt8 := dkwX13_init_1 ++ []
def dkwX13_init_0 : List UInt8 := [42, 183, 0, 1, 42, 27, 181, 0, 7, 42, 44, 181, 0, 13, 42, 29, 181, 0, 17, 42, 29, 181, 0, 20]
abbrev dktX13_init_0 : List UInt8 := dkwX13_init_0 ++ dktX13_init_1
theorem dksX13_init_0 : cX13_init.data.toList.drop 0 = dktX13_init_0 := by decide +kernel
theorem dksX13_init_1 : cX13_init.data.toList.drop 24 = dktX13_init_1 := dk_seg dksX13_init_0 24 rfl rfl
theorem dX13_init_0 : decode cX13_init 0 = .ok (.aload_n 0, 1) := dk_42 (dk_at dksX13_init_0 0 rfl rfl)
theorem dX13_init_1 : decode cX13_init 1 = .ok (.invokespecial 1, 3) := dk_183 0 1 (dk_at dksX13_init_0 1 rfl rfl)
theorem dX13_init_4 : decode cX13_init 4 = .ok (.aload_n 0, 1) := dk_42 (dk_at dksX13_init_0 4 rfl rfl)
theorem dX13_init_5 : decode cX13_init 5 = .ok (.iload_n 1, 1) := dk_27 (dk_at dksX13_init_0 5 rfl rfl)
theorem dX13_init_6 : decode cX13_init 6 = .ok (.putfield 7, 3) := dk_181 0 7 (dk_at dksX13_init_0 6 rfl rfl)
theorem dX13_init_9 : decode cX13_init 9 = .ok (.aload_n 0, 1) := dk_42 (dk_at dksX13_init_0 9 rfl rfl)
theorem dX13_init_10 : decode cX13_init 10 = .ok (.aload_n 2, 1) := dk_44 (dk_at dksX13_init_0 10 rfl rfl)
theorem dX13_init_11 : decode cX13_init 11 = .ok (.putfield 13, 3) := dk_181 0 13 (dk_at dksX13_init_0 11 rfl rfl)
theorem dX13_init_14 : decode cX13_init 14 = .ok (.aload_n 0, 1) := dk_42 (dk_at dksX13_init_0 14 rfl rfl)
theorem dX13_init_15 : decode cX13_init 15 = .ok (.iload_n 3, 1) := dk_29 (dk_at dksX13_init_0 15 rfl rfl)
theorem dX13_init_16 : decode cX13_init 16 = .ok (.putfield 17, 3) := dk_181 0 17 (dk_at dksX13_init_0 16 rfl rfl)
theorem dX13_init_19 : decode cX13_init 19 = .ok (.aload_n 0, 1) := dk_42 (dk_at dksX13_init_0 19 rfl rfl)
theorem dX13_init_20 : decode cX13_init 20 = .ok (.iload_n 3, 1) := dk_29 (dk_at dksX13_init_0 20 rfl rfl)
theorem dX13_init_21 : decode cX13_init 21 = .ok (.putfield 20, 3) := dk_181 0 20 (dk_at dksX13_init_0 21 rfl rfl)
theorem dX13_init_24 : decode cX13_init 24 = .ok (.aload_n 0, 1) := dk_42 (dk_at dksX13_init_1 0 rfl rfl)
theorem dX13_init_25 : decode cX13_init 25 = .ok (.lload 4, 2) := dk_22 4 (dk_at dksX13_init_1 1 rfl rfl)
theorem dX13_init_27 : decode cX13_init 27 = .ok (.putfield 23, 3) := dk_181 0 23 (dk_at dksX13_init_1 3 rfl rfl)
theorem dX13_init_30 : decode cX13_init 30 = .ok (.aload_n 0, 1) := dk_42 (dk_at dksX13_init_1 6 rfl rfl)
theorem dX13_init_31 : decode cX13_init 31 = .ok (.aload 6, 2) := dk_25 6 (dk_at dksX13_init_1 7 rfl rfl)
theorem dX13_init_33 : decode cX13_init 33 = .ok (.putfield 27, 3) := dk_181 0 27 (dk_at dksX13_init_1 9 rfl rfl)
theorem dX13_init_36 : decode cX13_init 36 = .ok (.return_, 1) := dk_177 (dk_at dksX13_init_1 12 rfl rfl)
abbrev cX13_give : ByteArray := prog_5_method_4_code
def yX13_give : MethodName := ⟨RX13, "give", "(LFoundrymark$Taken;)V"⟩
def dkwX13_give_2 : List UInt8 := [180, 0, 72, 101, 181, 0, 23, 42, 89, 180, 0, 20, 43, 180, 0, 64, 100, 181, 0, 20, 177]
abbrev dktX13_give_2 : List UInt8 := dkwX13_give_2 ++ []
def dkwX13_give_1 : List UInt8 := [180, 0, 23, 43, 180, 0, 64, 133, 105, 42, 180, 0, 20, 133, 109, 181, 0, 72, 42, 89, 180, 0, 23, 43]
abbrev dktX13_give_1 : List UInt8 := dkwX13_give_1 ++ dktX13_give_2
def dkwX13_give_0 : List UInt8 := [43, 180, 0, 64, 42, 180, 0, 20, 164, 0, 12, 187, 0, 67, 89, 1, 183, 0, 69, 191, 43, 42]
abbrev dktX13_give_0 : List UInt8 := dkwX13_give_0 ++ dktX13_give_1
theorem dksX13_give_0 : cX13_give.data.toList.drop 0 = dktX13_give_0 := by decide +kernel
theorem dksX13_give_1 : cX13_give.data.toList.drop 22 = dktX13_give_1 := dk_seg dksX13_give_0 22 rfl rfl
theorem dksX13_give_2 : cX13_give.data.toList.drop 46 = dktX13_give_2 := dk_seg dksX13_give_1 24 rfl rfl
theorem dX13_give_0 : decode cX13_give 0 = .ok (.aload_n 1, 1) := dk_43 (dk_at dksX13_give_0 0 rfl rfl)
theorem dX13_give_1 : decode cX13_give 1 = .ok (.getfield 64, 3) := dk_180 0 64 (dk_at dksX13_give_0 1 rfl rfl)
theorem dX13_give_4 : decode cX13_give 4 = .ok (.aload_n 0, 1) := dk_42 (dk_at dksX13_give_0 4 rfl rfl)
theorem dX13_give_5 : decode cX13_give 5 = .ok (.getfield 20, 3) := dk_180 0 20 (dk_at dksX13_give_0 5 rfl rfl)
theorem dX13_give_8 : decode cX13_give 8 = .ok (.if_icmp .le 12, 3) := dk_164 0 12 (dk_at dksX13_give_0 8 rfl rfl)
theorem dX13_give_11 : decode cX13_give 11 = .ok (.new 67, 3) := dk_187 0 67 (dk_at dksX13_give_0 11 rfl rfl)
theorem dX13_give_14 : decode cX13_give 14 = .ok (.dup, 1) := dk_89 (dk_at dksX13_give_0 14 rfl rfl)
theorem dX13_give_15 : decode cX13_give 15 = .ok (.aconst_null, 1) := dk_1 (dk_at dksX13_give_0 15 rfl rfl)
theorem dX13_give_16 : decode cX13_give 16 = .ok (.invokespecial 69, 3) := dk_183 0 69 (dk_at dksX13_give_0 16 rfl rfl)
theorem dX13_give_19 : decode cX13_give 19 = .ok (.athrow, 1) := dk_191 (dk_at dksX13_give_0 19 rfl rfl)
theorem dX13_give_20 : decode cX13_give 20 = .ok (.aload_n 1, 1) := dk_43 (dk_at dksX13_give_0 20 rfl rfl)
theorem dX13_give_21 : decode cX13_give 21 = .ok (.aload_n 0, 1) := dk_42 (dk_at dksX13_give_0 21 rfl rfl)
theorem dX13_give_22 : decode cX13_give 22 = .ok (.getfield 23, 3) := dk_180 0 23 (dk_at dksX13_give_1 0 rfl rfl)
theorem dX13_give_25 : decode cX13_give 25 = .ok (.aload_n 1, 1) := dk_43 (dk_at dksX13_give_1 3 rfl rfl)
theorem dX13_give_26 : decode cX13_give 26 = .ok (.getfield 64, 3) := dk_180 0 64 (dk_at dksX13_give_1 4 rfl rfl)
theorem dX13_give_29 : decode cX13_give 29 = .ok (.i2l, 1) := dk_133 (dk_at dksX13_give_1 7 rfl rfl)
theorem dX13_give_30 : decode cX13_give 30 = .ok (.lmul, 1) := dk_105 (dk_at dksX13_give_1 8 rfl rfl)
theorem dX13_give_31 : decode cX13_give 31 = .ok (.aload_n 0, 1) := dk_42 (dk_at dksX13_give_1 9 rfl rfl)
theorem dX13_give_32 : decode cX13_give 32 = .ok (.getfield 20, 3) := dk_180 0 20 (dk_at dksX13_give_1 10 rfl rfl)
theorem dX13_give_35 : decode cX13_give 35 = .ok (.i2l, 1) := dk_133 (dk_at dksX13_give_1 13 rfl rfl)
theorem dX13_give_36 : decode cX13_give 36 = .ok (.ldiv, 1) := dk_109 (dk_at dksX13_give_1 14 rfl rfl)
theorem dX13_give_37 : decode cX13_give 37 = .ok (.putfield 72, 3) := dk_181 0 72 (dk_at dksX13_give_1 15 rfl rfl)
theorem dX13_give_40 : decode cX13_give 40 = .ok (.aload_n 0, 1) := dk_42 (dk_at dksX13_give_1 18 rfl rfl)
theorem dX13_give_41 : decode cX13_give 41 = .ok (.dup, 1) := dk_89 (dk_at dksX13_give_1 19 rfl rfl)
theorem dX13_give_42 : decode cX13_give 42 = .ok (.getfield 23, 3) := dk_180 0 23 (dk_at dksX13_give_1 20 rfl rfl)
theorem dX13_give_45 : decode cX13_give 45 = .ok (.aload_n 1, 1) := dk_43 (dk_at dksX13_give_1 23 rfl rfl)
theorem dX13_give_46 : decode cX13_give 46 = .ok (.getfield 72, 3) := dk_180 0 72 (dk_at dksX13_give_2 0 rfl rfl)
theorem dX13_give_49 : decode cX13_give 49 = .ok (.lsub, 1) := dk_101 (dk_at dksX13_give_2 3 rfl rfl)
theorem dX13_give_50 : decode cX13_give 50 = .ok (.putfield 23, 3) := dk_181 0 23 (dk_at dksX13_give_2 4 rfl rfl)
theorem dX13_give_53 : decode cX13_give 53 = .ok (.aload_n 0, 1) := dk_42 (dk_at dksX13_give_2 7 rfl rfl)
theorem dX13_give_54 : decode cX13_give 54 = .ok (.dup, 1) := dk_89 (dk_at dksX13_give_2 8 rfl rfl)
theorem dX13_give_55 : decode cX13_give 55 = .ok (.getfield 20, 3) := dk_180 0 20 (dk_at dksX13_give_2 9 rfl rfl)
theorem dX13_give_58 : decode cX13_give 58 = .ok (.aload_n 1, 1) := dk_43 (dk_at dksX13_give_2 12 rfl rfl)
theorem dX13_give_59 : decode cX13_give 59 = .ok (.getfield 64, 3) := dk_180 0 64 (dk_at dksX13_give_2 13 rfl rfl)
theorem dX13_give_62 : decode cX13_give 62 = .ok (.isub, 1) := dk_100 (dk_at dksX13_give_2 16 rfl rfl)
theorem dX13_give_63 : decode cX13_give 63 = .ok (.putfield 20, 3) := dk_181 0 20 (dk_at dksX13_give_2 17 rfl rfl)
theorem dX13_give_66 : decode cX13_give 66 = .ok (.return_, 1) := dk_177 (dk_at dksX13_give_2 20 rfl rfl)
theorem q73 : (Jvm.Cond.initialized "Foundrymark$Lot") ∈ lw_all := lw_g (lw_at lw_m1 34 rfl) rfl
theorem q362 : (Jvm.Cond.instanceMethod ({ cls := "Foundrymark$Lot", name := "isOf", desc := "(LFoundrymark$Lot;)Z" } : Jvm.MethodName)) ∈ lw_all := lw_g (lw_at lw_m2 83 rfl) rfl
theorem q363 : (Jvm.Cond.selects "Foundrymark$Lot" ({ cls := "Foundrymark$Lot", name := "isOf", desc := "(LFoundrymark$Lot;)Z" } : Jvm.MethodName) ({ cls := "Foundrymark$Lot", name := "isOf", desc := "(LFoundrymark$Lot;)Z" } : Jvm.MethodName)) ∈ lw_all := lw_g (lw_at lw_m2 84 rfl) rfl
theorem q364 : (Jvm.Cond.code ({ cls := "Foundrymark$Lot", name := "isOf", desc := "(LFoundrymark$Lot;)Z" } : Jvm.MethodName) prog_5_method_3_code (5 : Nat) (Option.some Jvm.ClassFile.FieldType.boolean)) ∈ lw_all := lw_g (lw_at lw_m2 85 rfl) rfl
theorem q365 : (Jvm.Cond.methodLink "Foundrymark$Lot" (35 : Nat) ({ cls := "java/util/ArrayList", name := "iterator", desc := "()Ljava/util/Iterator;" } : Jvm.MethodName)) ∈ lw_all := lw_g (lw_at lw_m2 86 rfl) rfl
theorem q366 : (Jvm.Cond.interfaceEntry "Foundrymark$Lot" (41 : Nat)) ∈ lw_tbl := lw_at lw_m2 87 rfl
theorem q367 : (Jvm.Cond.methodLink "Foundrymark$Lot" (41 : Nat) ({ cls := "java/util/Iterator", name := "hasNext", desc := "()Z" } : Jvm.MethodName)) ∈ lw_all := lw_g (lw_at lw_m2 88 rfl) rfl
theorem q368 : (Jvm.Cond.interfaceEntry "Foundrymark$Lot" (47 : Nat)) ∈ lw_tbl := lw_at lw_m2 89 rfl
theorem q369 : (Jvm.Cond.methodLink "Foundrymark$Lot" (47 : Nat) ({ cls := "java/util/Iterator", name := "next", desc := "()Ljava/lang/Object;" } : Jvm.MethodName)) ∈ lw_all := lw_g (lw_at lw_m2 90 rfl) rfl
theorem q370 : (Jvm.Cond.classLink "Foundrymark$Lot" (51 : Nat) "Foundrymark$Taken") ∈ lw_all := lw_g (lw_at lw_m2 91 rfl) rfl
theorem q371 : (Jvm.Cond.methodLink "Foundrymark$Lot" (60 : Nat) ({ cls := "Foundrymark$Lot", name := "isOf", desc := "(LFoundrymark$Lot;)Z" } : Jvm.MethodName)) ∈ lw_all := lw_g (lw_at lw_m2 92 rfl) rfl
theorem q379 : (Jvm.Cond.instanceMethod ({ cls := "Foundrymark$Lot", name := "isHeld", desc := "()Z" } : Jvm.MethodName)) ∈ lw_all := lw_g (lw_at lw_m2 100 rfl) rfl
theorem q380 : (Jvm.Cond.selects "Foundrymark$Lot" ({ cls := "Foundrymark$Lot", name := "isHeld", desc := "()Z" } : Jvm.MethodName) ({ cls := "Foundrymark$Lot", name := "isHeld", desc := "()Z" } : Jvm.MethodName)) ∈ lw_all := lw_g (lw_at lw_m2 101 rfl) rfl
theorem q381 : (Jvm.Cond.code ({ cls := "Foundrymark$Lot", name := "isHeld", desc := "()Z" } : Jvm.MethodName) prog_5_method_2_code (4 : Nat) (Option.some Jvm.ClassFile.FieldType.boolean)) ∈ lw_all := lw_g (lw_at lw_m2 102 rfl) rfl
theorem q382 : (Jvm.Cond.methodLink "Foundrymark$Lot" (57 : Nat) ({ cls := "Foundrymark$Lot", name := "isHeld", desc := "()Z" } : Jvm.MethodName)) ∈ lw_all := lw_g (lw_at lw_m2 103 rfl) rfl
theorem q561 : (Jvm.Cond.selects "Foundrymark$Lot" ({ cls := "java/lang/Object", name := "getClass", desc := "()Ljava/lang/Class;" } : Jvm.MethodName) ({ cls := "java/lang/Object", name := "getClass", desc := "()Ljava/lang/Class;" } : Jvm.MethodName)) ∈ lw_all := lw_g (lw_at lw_m3 42 rfl) rfl
theorem q795 : (Jvm.Cond.instantiable "Foundrymark$Lot" (8 : Nat)) ∈ lw_all := lw_g (lw_at lw_m4 36 rfl) rfl
theorem q797 : (Jvm.Cond.instanceMethod ({ cls := "Foundrymark$Lot", name := "<init>", desc := "(ILFoundrymark$Part;IJLjava/util/ArrayList;)V" } : Jvm.MethodName)) ∈ lw_all := lw_g (lw_at lw_m4 38 rfl) rfl
theorem q798 : (Jvm.Cond.code ({ cls := "Foundrymark$Lot", name := "<init>", desc := "(ILFoundrymark$Part;IJLjava/util/ArrayList;)V" } : Jvm.MethodName) prog_5_method_1_code (7 : Nat) (Option.none : Option Jvm.ClassFile.FieldType)) ∈ lw_all := lw_g (lw_at lw_m4 39 rfl) rfl
theorem q799 : (Jvm.Cond.methodLink "Foundrymark$Lot" (1 : Nat) ({ cls := "java/lang/Object", name := "<init>", desc := "()V" } : Jvm.MethodName)) ∈ lw_all := lw_g (lw_at lw_m4 40 rfl) rfl
theorem q800 : (Jvm.Cond.fieldLink "Foundrymark$Lot" (7 : Nat) "Foundrymark$Lot" "number" "I") ∈ lw_all := lw_g (lw_at lw_m4 41 rfl) rfl
theorem q802 : (Jvm.Cond.fieldLink "Foundrymark$Lot" (13 : Nat) "Foundrymark$Lot" "part" "LFoundrymark$Part;") ∈ lw_all := lw_g (lw_at lw_m4 43 rfl) rfl
theorem q804 : (Jvm.Cond.fieldLink "Foundrymark$Lot" (17 : Nat) "Foundrymark$Lot" "quantity" "I") ∈ lw_all := lw_g (lw_at lw_m4 45 rfl) rfl
theorem q806 : (Jvm.Cond.fieldLink "Foundrymark$Lot" (27 : Nat) "Foundrymark$Lot" "madeOf" "Ljava/util/ArrayList;") ∈ lw_all := lw_g (lw_at lw_m4 47 rfl) rfl
theorem q808 : (Jvm.Cond.fieldLink "Foundrymark$Lot" (20 : Nat) "Foundrymark$Lot" "rest" "I") ∈ lw_all := lw_g (lw_at lw_m4 49 rfl) rfl
theorem q811 : (Jvm.Cond.fieldLink "Foundrymark$Lot" (23 : Nat) "Foundrymark$Lot" "cost" "J") ∈ lw_all := lw_g (lw_at lw_m4 52 rfl) rfl
theorem q813 : (Jvm.Cond.fieldLink "Foundrymark$Lot" (31 : Nat) "Foundrymark$Lot" "isOnHold" "Z") ∈ lw_all := lw_g (lw_at lw_m4 54 rfl) rfl
theorem q815 : (Jvm.Cond.laysFinal "Foundrymark$Lot" "Foundrymark$Lot" "number" "I") ∈ lw_all := lw_g (lw_at lw_m4 56 rfl) rfl
theorem q816 : (Jvm.Cond.soleField "Foundrymark$Lot" "number") ∈ lw_all := lw_g (lw_at lw_m4 57 rfl) rfl
theorem q817 : (Jvm.Cond.laysFinal "Foundrymark$Lot" "Foundrymark$Lot" "part" "LFoundrymark$Part;") ∈ lw_all := lw_g (lw_at lw_m4 58 rfl) rfl
theorem q818 : (Jvm.Cond.soleField "Foundrymark$Lot" "part") ∈ lw_all := lw_g (lw_at lw_m4 59 rfl) rfl
theorem q819 : (Jvm.Cond.laysFinal "Foundrymark$Lot" "Foundrymark$Lot" "quantity" "I") ∈ lw_all := lw_g (lw_at lw_m4 60 rfl) rfl
theorem q820 : (Jvm.Cond.soleField "Foundrymark$Lot" "quantity") ∈ lw_all := lw_g (lw_at lw_m4 61 rfl) rfl
theorem q821 : (Jvm.Cond.laysFinal "Foundrymark$Lot" "Foundrymark$Lot" "madeOf" "Ljava/util/ArrayList;") ∈ lw_all := lw_g (lw_at lw_m4 62 rfl) rfl
theorem q822 : (Jvm.Cond.soleField "Foundrymark$Lot" "madeOf") ∈ lw_all := lw_g (lw_at lw_m4 63 rfl) rfl
theorem q823 : (Jvm.Cond.lays "Foundrymark$Lot" "Foundrymark$Lot" "rest" "I") ∈ lw_all := lw_g (lw_at lw_m4 64 rfl) rfl
theorem q824 : (Jvm.Cond.soleField "Foundrymark$Lot" "rest") ∈ lw_all := lw_g (lw_at lw_m4 65 rfl) rfl
theorem q825 : (Jvm.Cond.lays "Foundrymark$Lot" "Foundrymark$Lot" "reserved" "I") ∈ lw_all := lw_g (lw_at lw_m4 66 rfl) rfl
theorem q826 : (Jvm.Cond.soleField "Foundrymark$Lot" "reserved") ∈ lw_all := lw_g (lw_at lw_m4 67 rfl) rfl
theorem q827 : (Jvm.Cond.lays "Foundrymark$Lot" "Foundrymark$Lot" "cost" "J") ∈ lw_all := lw_g (lw_at lw_m4 68 rfl) rfl
theorem q828 : (Jvm.Cond.soleField "Foundrymark$Lot" "cost") ∈ lw_all := lw_g (lw_at lw_m4 69 rfl) rfl
theorem q829 : (Jvm.Cond.lays "Foundrymark$Lot" "Foundrymark$Lot" "isOnHold" "Z") ∈ lw_all := lw_g (lw_at lw_m4 70 rfl) rfl
theorem q830 : (Jvm.Cond.soleField "Foundrymark$Lot" "isOnHold") ∈ lw_all := lw_g (lw_at lw_m4 71 rfl) rfl
theorem q831 : (Jvm.Cond.superclass "Foundrymark$Lot" "java/lang/Object") ∈ lw_all := lw_g (lw_at lw_m4 72 rfl) rfl
theorem q1067 : (Jvm.Cond.fieldLink "Foundrymark$Lot" (53 : Nat) "Foundrymark$Taken" "lot" "LFoundrymark$Lot;") ∈ lw_all := lw_g (lw_at lw_m5 68 rfl) rfl
theorem q1070 : (Jvm.Cond.fieldLink "Foundrymark$Lot" (64 : Nat) "Foundrymark$Taken" "pieces" "I") ∈ lw_all := lw_g (lw_at lw_m5 71 rfl) rfl
theorem q1072 : (Jvm.Cond.fieldLink "Foundrymark$Lot" (72 : Nat) "Foundrymark$Taken" "cost" "J") ∈ lw_all := lw_g (lw_at lw_m5 73 rfl) rfl
theorem q1118 : (Jvm.Cond.instanceMethod ({ cls := "Foundrymark$Lot", name := "give", desc := "(LFoundrymark$Taken;)V" } : Jvm.MethodName)) ∈ lw_all := lw_g (lw_at lw_m5 119 rfl) rfl
theorem q1119 : (Jvm.Cond.selects "Foundrymark$Lot" ({ cls := "Foundrymark$Lot", name := "give", desc := "(LFoundrymark$Taken;)V" } : Jvm.MethodName) ({ cls := "Foundrymark$Lot", name := "give", desc := "(LFoundrymark$Taken;)V" } : Jvm.MethodName)) ∈ lw_all := lw_g (lw_at lw_m5 120 rfl) rfl
theorem q1120 : (Jvm.Cond.code ({ cls := "Foundrymark$Lot", name := "give", desc := "(LFoundrymark$Taken;)V" } : Jvm.MethodName) prog_5_method_4_code (2 : Nat) (Option.none : Option Jvm.ClassFile.FieldType)) ∈ lw_all := lw_g (lw_at lw_m5 121 rfl) rfl
theorem q1121 : (Jvm.Cond.classLink "Foundrymark$Lot" (67 : Nat) "Foundrymark$Lack") ∈ lw_all := lw_g (lw_at lw_m5 122 rfl) rfl
theorem q1122 : (Jvm.Cond.methodLink "Foundrymark$Lot" (69 : Nat) ({ cls := "Foundrymark$Lack", name := "<init>", desc := "(Ljava/lang/RuntimeException;)V" } : Jvm.MethodName)) ∈ lw_all := lw_g (lw_at lw_m5 123 rfl) rfl
theorem q2000 : (Jvm.Cond.castable "Foundrymark$Lot" "java/lang/Object") ∈ lw_tbl := lw_at lw_m9 41 rfl
theorem in_X13 : ∀ w ∈ wsX130, w ∈ lw_all := lw_in wsX130 [815, 817, 819, 821, 823, 825, 827, 829] (by decide +kernel) (by decide +kernel)

/-! Foundrymark$Rule$1 -/
set_option maxRecDepth 100000
def RX14 : String := "Foundrymark$Rule$1"
abbrev cX14_next : ByteArray := prog_12_method_2_code
def yX14_next : MethodName := ⟨RX14, "next", "(Ljava/util/ArrayList;)LFoundrymark$Rule;"⟩
def dkwX14_next_3 : List UInt8 := [178, 0, 39, 167, 0, 4, 42, 176]
abbrev dktX14_next_3 : List UInt8 := dkwX14_next_3 ++ []
def dkwX14_next_2 : List UInt8 := [167, 255, 223, 28, 5, 161, 0, 9, 178, 0, 29, 167, 0, 18, 43, 7, 184, 0, 35, 153, 0, 9]
abbrev dktX14_next_2 : List UInt8 := dkwX14_next_2 ++ dktX14_next_3
def dkwX14_next_1 : List UInt8 := [182, 0, 19, 192, 0, 23, 182, 0, 25, 153, 0, 7, 4, 167, 0, 4, 3, 96, 61, 132, 3, 1]
abbrev dktX14_next_1 : List UInt8 := dkwX14_next_1 ++ dktX14_next_2
def dkwX14_next_0 : List UInt8 := [3, 61, 3, 43, 182, 0, 7, 8, 100, 184, 0, 13, 62, 29, 43, 182, 0, 7, 162, 0, 31, 28, 43, 29]
abbrev dktX14_next_0 : List UInt8 := dkwX14_next_0 ++ dktX14_next_1
theorem dksX14_next_0 : cX14_next.data.toList.drop 0 = dktX14_next_0 := by decide +kernel
theorem dksX14_next_1 : cX14_next.data.toList.drop 24 = dktX14_next_1 := dk_seg dksX14_next_0 24 rfl rfl
theorem dksX14_next_2 : cX14_next.data.toList.drop 46 = dktX14_next_2 := dk_seg dksX14_next_1 22 rfl rfl
theorem dksX14_next_3 : cX14_next.data.toList.drop 68 = dktX14_next_3 := dk_seg dksX14_next_2 22 rfl rfl
theorem dX14_next_0 : decode cX14_next 0 = .ok (.iconst 0, 1) := dk_3 (dk_at dksX14_next_0 0 rfl rfl)
theorem dX14_next_1 : decode cX14_next 1 = .ok (.istore_n 2, 1) := dk_61 (dk_at dksX14_next_0 1 rfl rfl)
theorem dX14_next_2 : decode cX14_next 2 = .ok (.iconst 0, 1) := dk_3 (dk_at dksX14_next_0 2 rfl rfl)
theorem dX14_next_3 : decode cX14_next 3 = .ok (.aload_n 1, 1) := dk_43 (dk_at dksX14_next_0 3 rfl rfl)
theorem dX14_next_4 : decode cX14_next 4 = .ok (.invokevirtual 7, 3) := dk_182 0 7 (dk_at dksX14_next_0 4 rfl rfl)
theorem dX14_next_7 : decode cX14_next 7 = .ok (.iconst 5, 1) := dk_8 (dk_at dksX14_next_0 7 rfl rfl)
theorem dX14_next_8 : decode cX14_next 8 = .ok (.isub, 1) := dk_100 (dk_at dksX14_next_0 8 rfl rfl)
theorem dX14_next_9 : decode cX14_next 9 = .ok (.invokestatic 13, 3) := dk_184 0 13 (dk_at dksX14_next_0 9 rfl rfl)
theorem dX14_next_12 : decode cX14_next 12 = .ok (.istore_n 3, 1) := dk_62 (dk_at dksX14_next_0 12 rfl rfl)
theorem dX14_next_13 : decode cX14_next 13 = .ok (.iload_n 3, 1) := dk_29 (dk_at dksX14_next_0 13 rfl rfl)
theorem dX14_next_14 : decode cX14_next 14 = .ok (.aload_n 1, 1) := dk_43 (dk_at dksX14_next_0 14 rfl rfl)
theorem dX14_next_15 : decode cX14_next 15 = .ok (.invokevirtual 7, 3) := dk_182 0 7 (dk_at dksX14_next_0 15 rfl rfl)
theorem dX14_next_18 : decode cX14_next 18 = .ok (.if_icmp .ge 31, 3) := dk_162 0 31 (dk_at dksX14_next_0 18 rfl rfl)
theorem dX14_next_21 : decode cX14_next 21 = .ok (.iload_n 2, 1) := dk_28 (dk_at dksX14_next_0 21 rfl rfl)
theorem dX14_next_22 : decode cX14_next 22 = .ok (.aload_n 1, 1) := dk_43 (dk_at dksX14_next_0 22 rfl rfl)
theorem dX14_next_23 : decode cX14_next 23 = .ok (.iload_n 3, 1) := dk_29 (dk_at dksX14_next_0 23 rfl rfl)
theorem dX14_next_24 : decode cX14_next 24 = .ok (.invokevirtual 19, 3) := dk_182 0 19 (dk_at dksX14_next_1 0 rfl rfl)
theorem dX14_next_27 : decode cX14_next 27 = .ok (.checkcast 23, 3) := dk_192 0 23 (dk_at dksX14_next_1 3 rfl rfl)
theorem dX14_next_30 : decode cX14_next 30 = .ok (.invokevirtual 25, 3) := dk_182 0 25 (dk_at dksX14_next_1 6 rfl rfl)
theorem dX14_next_33 : decode cX14_next 33 = .ok (.ifCond .eq 7, 3) := dk_153 0 7 (dk_at dksX14_next_1 9 rfl rfl)
theorem dX14_next_36 : decode cX14_next 36 = .ok (.iconst 1, 1) := dk_4 (dk_at dksX14_next_1 12 rfl rfl)
theorem dX14_next_37 : decode cX14_next 37 = .ok (.goto 4, 3) := dk_167 0 4 (dk_at dksX14_next_1 13 rfl rfl)
theorem dX14_next_40 : decode cX14_next 40 = .ok (.iconst 0, 1) := dk_3 (dk_at dksX14_next_1 16 rfl rfl)
theorem dX14_next_41 : decode cX14_next 41 = .ok (.iadd, 1) := dk_96 (dk_at dksX14_next_1 17 rfl rfl)
theorem dX14_next_42 : decode cX14_next 42 = .ok (.istore_n 2, 1) := dk_61 (dk_at dksX14_next_1 18 rfl rfl)
theorem dX14_next_43 : decode cX14_next 43 = .ok (.iinc 3 1, 3) := dk_132 3 1 (dk_at dksX14_next_1 19 rfl rfl)
theorem dX14_next_46 : decode cX14_next 46 = .ok (.goto (-33), 3) := dk_167 255 223 (dk_at dksX14_next_2 0 rfl rfl)
theorem dX14_next_49 : decode cX14_next 49 = .ok (.iload_n 2, 1) := dk_28 (dk_at dksX14_next_2 3 rfl rfl)
theorem dX14_next_50 : decode cX14_next 50 = .ok (.iconst 2, 1) := dk_5 (dk_at dksX14_next_2 4 rfl rfl)
theorem dX14_next_51 : decode cX14_next 51 = .ok (.if_icmp .lt 9, 3) := dk_161 0 9 (dk_at dksX14_next_2 5 rfl rfl)
theorem dX14_next_54 : decode cX14_next 54 = .ok (.getstatic 29, 3) := dk_178 0 29 (dk_at dksX14_next_2 8 rfl rfl)
theorem dX14_next_57 : decode cX14_next 57 = .ok (.goto 18, 3) := dk_167 0 18 (dk_at dksX14_next_2 11 rfl rfl)
theorem dX14_next_60 : decode cX14_next 60 = .ok (.aload_n 1, 1) := dk_43 (dk_at dksX14_next_2 14 rfl rfl)
theorem dX14_next_61 : decode cX14_next 61 = .ok (.iconst 4, 1) := dk_7 (dk_at dksX14_next_2 15 rfl rfl)
theorem dX14_next_62 : decode cX14_next 62 = .ok (.invokestatic 35, 3) := dk_184 0 35 (dk_at dksX14_next_2 16 rfl rfl)
theorem dX14_next_65 : decode cX14_next 65 = .ok (.ifCond .eq 9, 3) := dk_153 0 9 (dk_at dksX14_next_2 19 rfl rfl)
theorem dX14_next_68 : decode cX14_next 68 = .ok (.getstatic 39, 3) := dk_178 0 39 (dk_at dksX14_next_3 0 rfl rfl)
theorem dX14_next_71 : decode cX14_next 71 = .ok (.goto 4, 3) := dk_167 0 4 (dk_at dksX14_next_3 3 rfl rfl)
theorem dX14_next_74 : decode cX14_next 74 = .ok (.aload_n 0, 1) := dk_42 (dk_at dksX14_next_3 6 rfl rfl)
theorem dX14_next_75 : decode cX14_next 75 = .ok (.areturn, 1) := dk_176 (dk_at dksX14_next_3 7 rfl rfl)
theorem q75 : (Jvm.Cond.initialized "Foundrymark$Rule$1") ∈ lw_all := lw_g (lw_at lw_m1 36 rfl) rfl
theorem q566 : (Jvm.Cond.selects "Foundrymark$Rule$1" ({ cls := "java/lang/Object", name := "getClass", desc := "()Ljava/lang/Class;" } : Jvm.MethodName) ({ cls := "java/lang/Object", name := "getClass", desc := "()Ljava/lang/Class;" } : Jvm.MethodName)) ∈ lw_all := lw_g (lw_at lw_m3 47 rfl) rfl
theorem q847 : (Jvm.Cond.selects "Foundrymark$Rule$1" ({ cls := "Foundrymark$Rule", name := "next", desc := "(Ljava/util/ArrayList;)LFoundrymark$Rule;" } : Jvm.MethodName) ({ cls := "Foundrymark$Rule$1", name := "next", desc := "(Ljava/util/ArrayList;)LFoundrymark$Rule;" } : Jvm.MethodName)) ∈ lw_all := lw_g (lw_at lw_m4 88 rfl) rfl
theorem q848 : (Jvm.Cond.instanceMethod ({ cls := "Foundrymark$Rule$1", name := "next", desc := "(Ljava/util/ArrayList;)LFoundrymark$Rule;" } : Jvm.MethodName)) ∈ lw_all := lw_g (lw_at lw_m4 89 rfl) rfl
theorem q849 : (Jvm.Cond.code ({ cls := "Foundrymark$Rule$1", name := "next", desc := "(Ljava/util/ArrayList;)LFoundrymark$Rule;" } : Jvm.MethodName) prog_12_method_2_code (4 : Nat) (Option.some (Jvm.ClassFile.FieldType.object "Foundrymark$Rule"))) ∈ lw_all := lw_g (lw_at lw_m4 90 rfl) rfl
theorem q850 : (Jvm.Cond.methodLink "Foundrymark$Rule$1" (7 : Nat) ({ cls := "java/util/ArrayList", name := "size", desc := "()I" } : Jvm.MethodName)) ∈ lw_all := lw_g (lw_at lw_m4 91 rfl) rfl
theorem q851 : (Jvm.Cond.methodLink "Foundrymark$Rule$1" (13 : Nat) ({ cls := "java/lang/Math", name := "max", desc := "(II)I" } : Jvm.MethodName)) ∈ lw_all := lw_g (lw_at lw_m4 92 rfl) rfl
theorem q852 : (Jvm.Cond.methodLink "Foundrymark$Rule$1" (19 : Nat) ({ cls := "java/util/ArrayList", name := "get", desc := "(I)Ljava/lang/Object;" } : Jvm.MethodName)) ∈ lw_all := lw_g (lw_at lw_m4 93 rfl) rfl
theorem q853 : (Jvm.Cond.classLink "Foundrymark$Rule$1" (23 : Nat) "java/lang/Boolean") ∈ lw_all := lw_g (lw_at lw_m4 94 rfl) rfl
theorem q854 : (Jvm.Cond.methodLink "Foundrymark$Rule$1" (25 : Nat) ({ cls := "java/lang/Boolean", name := "booleanValue", desc := "()Z" } : Jvm.MethodName)) ∈ lw_all := lw_g (lw_at lw_m4 95 rfl) rfl
theorem q858 : (Jvm.Cond.fieldLink "Foundrymark$Rule$1" (29 : Nat) "Foundrymark$Rule$1" "TIGHT" "LFoundrymark$Rule;") ∈ lw_all := lw_g (lw_at lw_m4 99 rfl) rfl
theorem q859 : (Jvm.Cond.sameField "Foundrymark$Rule$1" "Foundrymark$Rule" "TIGHT" "LFoundrymark$Rule;") ∈ lw_all := lw_g (lw_at lw_m4 100 rfl) rfl
theorem q861 : (Jvm.Cond.methodLinkNest "Foundrymark$Rule$1" (35 : Nat) ({ cls := "Foundrymark$Rule", name := "areGood", desc := "(Ljava/util/ArrayList;I)Z" } : Jvm.MethodName) "Foundrymark") ∈ lw_tbl := lw_at lw_m4 102 rfl
theorem q869 : (Jvm.Cond.fieldLink "Foundrymark$Rule$1" (39 : Nat) "Foundrymark$Rule$1" "REDUCED" "LFoundrymark$Rule;") ∈ lw_all := lw_g (lw_at lw_m4 110 rfl) rfl
theorem q870 : (Jvm.Cond.sameField "Foundrymark$Rule$1" "Foundrymark$Rule" "REDUCED" "LFoundrymark$Rule;") ∈ lw_all := lw_g (lw_at lw_m4 111 rfl) rfl
theorem q1196 : (Jvm.Cond.castable "Foundrymark$Rule$1" "java/lang/Comparable") ∈ lw_tbl := lw_at lw_m5 197 rfl
theorem q1197 : (Jvm.Cond.selects "Foundrymark$Rule$1" ({ cls := "java/lang/Comparable", name := "compareTo", desc := "(Ljava/lang/Object;)I" } : Jvm.MethodName) ({ cls := "java/lang/Enum", name := "compareTo", desc := "(Ljava/lang/Object;)I" } : Jvm.MethodName)) ∈ lw_all := lw_g (lw_at lw_m5 198 rfl) rfl
theorem q1198 : (Jvm.Cond.unhidden "Foundrymark$Rule$1" "compareTo" "(Ljava/lang/Object;)I") ∈ lw_tbl := lw_at lw_m5 199 rfl
theorem q1206 : (Jvm.Cond.selects "Foundrymark$Rule$1" ({ cls := "java/lang/Enum", name := "compareTo", desc := "(Ljava/lang/Enum;)I" } : Jvm.MethodName) ({ cls := "java/lang/Enum", name := "compareTo", desc := "(Ljava/lang/Enum;)I" } : Jvm.MethodName)) ∈ lw_all := lw_g (lw_at lw_m5 207 rfl) rfl
theorem q1215 : (Jvm.Cond.selects "Foundrymark$Rule$1" ({ cls := "java/lang/Enum", name := "getDeclaringClass", desc := "()Ljava/lang/Class;" } : Jvm.MethodName) ({ cls := "java/lang/Enum", name := "getDeclaringClass", desc := "()Ljava/lang/Class;" } : Jvm.MethodName)) ∈ lw_all := lw_g (lw_at lw_m5 216 rfl) rfl
theorem q1975 : (Jvm.Cond.castable "Foundrymark$Rule$1" "java/lang/Enum") ∈ lw_tbl := lw_at lw_m9 16 rfl
theorem q1985 : (Jvm.Cond.castable "Foundrymark$Rule$1" "java/lang/Object") ∈ lw_tbl := lw_at lw_m9 26 rfl

/-! Foundrymark$Rule$2 -/
set_option maxRecDepth 100000
def RX15 : String := "Foundrymark$Rule$2"
abbrev cX15_next : ByteArray := prog_13_method_2_code
def yX15_next : MethodName := ⟨RX15, "next", "(Ljava/util/ArrayList;)LFoundrymark$Rule;"⟩
def dkwX15_next_0 : List UInt8 := [43, 6, 184, 0, 7, 153, 0, 9, 178, 0, 11, 167, 0, 4, 42, 176]
abbrev dktX15_next_0 : List UInt8 := dkwX15_next_0 ++ []
theorem dksX15_next_0 : cX15_next.data.toList.drop 0 = dktX15_next_0 := by decide +kernel
theorem dX15_next_0 : decode cX15_next 0 = .ok (.aload_n 1, 1) := dk_43 (dk_at dksX15_next_0 0 rfl rfl)
theorem dX15_next_1 : decode cX15_next 1 = .ok (.iconst 3, 1) := dk_6 (dk_at dksX15_next_0 1 rfl rfl)
theorem dX15_next_2 : decode cX15_next 2 = .ok (.invokestatic 7, 3) := dk_184 0 7 (dk_at dksX15_next_0 2 rfl rfl)
theorem dX15_next_5 : decode cX15_next 5 = .ok (.ifCond .eq 9, 3) := dk_153 0 9 (dk_at dksX15_next_0 5 rfl rfl)
theorem dX15_next_8 : decode cX15_next 8 = .ok (.getstatic 11, 3) := dk_178 0 11 (dk_at dksX15_next_0 8 rfl rfl)
theorem dX15_next_11 : decode cX15_next 11 = .ok (.goto 4, 3) := dk_167 0 4 (dk_at dksX15_next_0 11 rfl rfl)
theorem dX15_next_14 : decode cX15_next 14 = .ok (.aload_n 0, 1) := dk_42 (dk_at dksX15_next_0 14 rfl rfl)
theorem dX15_next_15 : decode cX15_next 15 = .ok (.areturn, 1) := dk_176 (dk_at dksX15_next_0 15 rfl rfl)
theorem q76 : (Jvm.Cond.initialized "Foundrymark$Rule$2") ∈ lw_all := lw_g (lw_at lw_m1 37 rfl) rfl
theorem q567 : (Jvm.Cond.selects "Foundrymark$Rule$2" ({ cls := "java/lang/Object", name := "getClass", desc := "()Ljava/lang/Class;" } : Jvm.MethodName) ({ cls := "java/lang/Object", name := "getClass", desc := "()Ljava/lang/Class;" } : Jvm.MethodName)) ∈ lw_all := lw_g (lw_at lw_m3 48 rfl) rfl
theorem q872 : (Jvm.Cond.selects "Foundrymark$Rule$2" ({ cls := "Foundrymark$Rule", name := "next", desc := "(Ljava/util/ArrayList;)LFoundrymark$Rule;" } : Jvm.MethodName) ({ cls := "Foundrymark$Rule$2", name := "next", desc := "(Ljava/util/ArrayList;)LFoundrymark$Rule;" } : Jvm.MethodName)) ∈ lw_all := lw_g (lw_at lw_m4 113 rfl) rfl
theorem q873 : (Jvm.Cond.instanceMethod ({ cls := "Foundrymark$Rule$2", name := "next", desc := "(Ljava/util/ArrayList;)LFoundrymark$Rule;" } : Jvm.MethodName)) ∈ lw_all := lw_g (lw_at lw_m4 114 rfl) rfl
theorem q874 : (Jvm.Cond.code ({ cls := "Foundrymark$Rule$2", name := "next", desc := "(Ljava/util/ArrayList;)LFoundrymark$Rule;" } : Jvm.MethodName) prog_13_method_2_code (2 : Nat) (Option.some (Jvm.ClassFile.FieldType.object "Foundrymark$Rule"))) ∈ lw_all := lw_g (lw_at lw_m4 115 rfl) rfl
theorem q875 : (Jvm.Cond.methodLinkNest "Foundrymark$Rule$2" (7 : Nat) ({ cls := "Foundrymark$Rule", name := "areGood", desc := "(Ljava/util/ArrayList;I)Z" } : Jvm.MethodName) "Foundrymark") ∈ lw_tbl := lw_at lw_m4 116 rfl
theorem q876 : (Jvm.Cond.fieldLink "Foundrymark$Rule$2" (11 : Nat) "Foundrymark$Rule$2" "NORMAL" "LFoundrymark$Rule;") ∈ lw_all := lw_g (lw_at lw_m4 117 rfl) rfl
theorem q877 : (Jvm.Cond.sameField "Foundrymark$Rule$2" "Foundrymark$Rule" "NORMAL" "LFoundrymark$Rule;") ∈ lw_all := lw_g (lw_at lw_m4 118 rfl) rfl
theorem q1207 : (Jvm.Cond.selects "Foundrymark$Rule$2" ({ cls := "java/lang/Enum", name := "compareTo", desc := "(Ljava/lang/Enum;)I" } : Jvm.MethodName) ({ cls := "java/lang/Enum", name := "compareTo", desc := "(Ljava/lang/Enum;)I" } : Jvm.MethodName)) ∈ lw_all := lw_g (lw_at lw_m5 208 rfl) rfl
theorem q1216 : (Jvm.Cond.selects "Foundrymark$Rule$2" ({ cls := "java/lang/Enum", name := "getDeclaringClass", desc := "()Ljava/lang/Class;" } : Jvm.MethodName) ({ cls := "java/lang/Enum", name := "getDeclaringClass", desc := "()Ljava/lang/Class;" } : Jvm.MethodName)) ∈ lw_all := lw_g (lw_at lw_m5 217 rfl) rfl
theorem q1220 : (Jvm.Cond.castable "Foundrymark$Rule$2" "java/lang/Comparable") ∈ lw_tbl := lw_at lw_m5 221 rfl
theorem q1221 : (Jvm.Cond.selects "Foundrymark$Rule$2" ({ cls := "java/lang/Comparable", name := "compareTo", desc := "(Ljava/lang/Object;)I" } : Jvm.MethodName) ({ cls := "java/lang/Enum", name := "compareTo", desc := "(Ljava/lang/Object;)I" } : Jvm.MethodName)) ∈ lw_all := lw_g (lw_at lw_m5 222 rfl) rfl
theorem q1222 : (Jvm.Cond.unhidden "Foundrymark$Rule$2" "compareTo" "(Ljava/lang/Object;)I") ∈ lw_tbl := lw_at lw_m5 223 rfl
theorem q1976 : (Jvm.Cond.castable "Foundrymark$Rule$2" "java/lang/Enum") ∈ lw_tbl := lw_at lw_m9 17 rfl
theorem q2002 : (Jvm.Cond.castable "Foundrymark$Rule$2" "java/lang/Object") ∈ lw_tbl := lw_at lw_m9 43 rfl

/-! Foundrymark$Rule$3 -/
set_option maxRecDepth 100000
def RX16 : String := "Foundrymark$Rule$3"
abbrev cX16_next : ByteArray := prog_14_method_2_code
def yX16_next : MethodName := ⟨RX16, "next", "(Ljava/util/ArrayList;)LFoundrymark$Rule;"⟩
def dkwX16_next_0 : List UInt8 := [43, 4, 184, 0, 7, 153, 0, 7, 42, 167, 0, 6, 178, 0, 11, 176]
abbrev dktX16_next_0 : List UInt8 := dkwX16_next_0 ++ []
theorem dksX16_next_0 : cX16_next.data.toList.drop 0 = dktX16_next_0 := by decide +kernel
theorem dX16_next_0 : decode cX16_next 0 = .ok (.aload_n 1, 1) := dk_43 (dk_at dksX16_next_0 0 rfl rfl)
theorem dX16_next_1 : decode cX16_next 1 = .ok (.iconst 1, 1) := dk_4 (dk_at dksX16_next_0 1 rfl rfl)
theorem dX16_next_2 : decode cX16_next 2 = .ok (.invokestatic 7, 3) := dk_184 0 7 (dk_at dksX16_next_0 2 rfl rfl)
theorem dX16_next_5 : decode cX16_next 5 = .ok (.ifCond .eq 7, 3) := dk_153 0 7 (dk_at dksX16_next_0 5 rfl rfl)
theorem dX16_next_8 : decode cX16_next 8 = .ok (.aload_n 0, 1) := dk_42 (dk_at dksX16_next_0 8 rfl rfl)
theorem dX16_next_9 : decode cX16_next 9 = .ok (.goto 6, 3) := dk_167 0 6 (dk_at dksX16_next_0 9 rfl rfl)
theorem dX16_next_12 : decode cX16_next 12 = .ok (.getstatic 11, 3) := dk_178 0 11 (dk_at dksX16_next_0 12 rfl rfl)
theorem dX16_next_15 : decode cX16_next 15 = .ok (.areturn, 1) := dk_176 (dk_at dksX16_next_0 15 rfl rfl)
theorem q77 : (Jvm.Cond.initialized "Foundrymark$Rule$3") ∈ lw_all := lw_g (lw_at lw_m1 38 rfl) rfl
theorem q568 : (Jvm.Cond.selects "Foundrymark$Rule$3" ({ cls := "java/lang/Object", name := "getClass", desc := "()Ljava/lang/Class;" } : Jvm.MethodName) ({ cls := "java/lang/Object", name := "getClass", desc := "()Ljava/lang/Class;" } : Jvm.MethodName)) ∈ lw_all := lw_g (lw_at lw_m3 49 rfl) rfl
theorem q878 : (Jvm.Cond.selects "Foundrymark$Rule$3" ({ cls := "Foundrymark$Rule", name := "next", desc := "(Ljava/util/ArrayList;)LFoundrymark$Rule;" } : Jvm.MethodName) ({ cls := "Foundrymark$Rule$3", name := "next", desc := "(Ljava/util/ArrayList;)LFoundrymark$Rule;" } : Jvm.MethodName)) ∈ lw_all := lw_g (lw_at lw_m4 119 rfl) rfl
theorem q879 : (Jvm.Cond.instanceMethod ({ cls := "Foundrymark$Rule$3", name := "next", desc := "(Ljava/util/ArrayList;)LFoundrymark$Rule;" } : Jvm.MethodName)) ∈ lw_all := lw_g (lw_at lw_m4 120 rfl) rfl
theorem q880 : (Jvm.Cond.code ({ cls := "Foundrymark$Rule$3", name := "next", desc := "(Ljava/util/ArrayList;)LFoundrymark$Rule;" } : Jvm.MethodName) prog_14_method_2_code (2 : Nat) (Option.some (Jvm.ClassFile.FieldType.object "Foundrymark$Rule"))) ∈ lw_all := lw_g (lw_at lw_m4 121 rfl) rfl
theorem q881 : (Jvm.Cond.methodLinkNest "Foundrymark$Rule$3" (7 : Nat) ({ cls := "Foundrymark$Rule", name := "areGood", desc := "(Ljava/util/ArrayList;I)Z" } : Jvm.MethodName) "Foundrymark") ∈ lw_tbl := lw_at lw_m4 122 rfl
theorem q882 : (Jvm.Cond.fieldLink "Foundrymark$Rule$3" (11 : Nat) "Foundrymark$Rule$3" "NORMAL" "LFoundrymark$Rule;") ∈ lw_all := lw_g (lw_at lw_m4 123 rfl) rfl
theorem q883 : (Jvm.Cond.sameField "Foundrymark$Rule$3" "Foundrymark$Rule" "NORMAL" "LFoundrymark$Rule;") ∈ lw_all := lw_g (lw_at lw_m4 124 rfl) rfl
theorem q1208 : (Jvm.Cond.selects "Foundrymark$Rule$3" ({ cls := "java/lang/Enum", name := "compareTo", desc := "(Ljava/lang/Enum;)I" } : Jvm.MethodName) ({ cls := "java/lang/Enum", name := "compareTo", desc := "(Ljava/lang/Enum;)I" } : Jvm.MethodName)) ∈ lw_all := lw_g (lw_at lw_m5 209 rfl) rfl
theorem q1217 : (Jvm.Cond.selects "Foundrymark$Rule$3" ({ cls := "java/lang/Enum", name := "getDeclaringClass", desc := "()Ljava/lang/Class;" } : Jvm.MethodName) ({ cls := "java/lang/Enum", name := "getDeclaringClass", desc := "()Ljava/lang/Class;" } : Jvm.MethodName)) ∈ lw_all := lw_g (lw_at lw_m5 218 rfl) rfl
theorem q1223 : (Jvm.Cond.castable "Foundrymark$Rule$3" "java/lang/Comparable") ∈ lw_tbl := lw_at lw_m5 224 rfl
theorem q1224 : (Jvm.Cond.selects "Foundrymark$Rule$3" ({ cls := "java/lang/Comparable", name := "compareTo", desc := "(Ljava/lang/Object;)I" } : Jvm.MethodName) ({ cls := "java/lang/Enum", name := "compareTo", desc := "(Ljava/lang/Object;)I" } : Jvm.MethodName)) ∈ lw_all := lw_g (lw_at lw_m5 225 rfl) rfl
theorem q1225 : (Jvm.Cond.unhidden "Foundrymark$Rule$3" "compareTo" "(Ljava/lang/Object;)I") ∈ lw_tbl := lw_at lw_m5 226 rfl
theorem q1977 : (Jvm.Cond.castable "Foundrymark$Rule$3" "java/lang/Enum") ∈ lw_tbl := lw_at lw_m9 18 rfl
theorem q2003 : (Jvm.Cond.castable "Foundrymark$Rule$3" "java/lang/Object") ∈ lw_tbl := lw_at lw_m9 44 rfl

/-! FoundrymarkModel$Lot -/
set_option maxRecDepth 100000
def RX17 : String := "FoundrymarkModel$Lot"
def TX17 : u_T := fun k => match k with
  | 0 => ("FoundrymarkModel$Lot", "number", "I", true)
  | 1 => ("FoundrymarkModel$Lot", "part", "I", true)
  | 2 => ("FoundrymarkModel$Lot", "rest", "I", false)
  | 3 => ("FoundrymarkModel$Lot", "reserved", "I", false)
  | 4 => ("FoundrymarkModel$Lot", "cost", "J", false)
  | 5 => ("FoundrymarkModel$Lot", "isOnHold", "Z", false)
  | _ => ("FoundrymarkModel$Lot", "of", "Ljava/util/ArrayList;", true)
def tyX17 : Nat → FieldType := fun k => match k with
  | 0 => .int
  | 1 => .int
  | 2 => .int
  | 3 => .int
  | 4 => .long
  | 5 => .boolean
  | _ => .object "java/util/ArrayList"
abbrev wsX170 : List Cond := u_ws RX17 TX17 7
theorem nmX17 : ∀ a, a < 7 → ∀ b, b < 7 → a ≠ b → (TX17 a).2.1 ≠ (TX17 b).2.1 := by decide +kernel
theorem tyX17_ok : ∀ k, k < 7 → parseFieldDescriptor (TX17 k).2.2.1 = some (tyX17 k) := by decide +kernel
abbrev cX17_init : ByteArray := prog_20_method_1_code
def yX17_init : MethodName := ⟨RX17, "<init>", "(IIIJ)V"⟩
def dkwX17_init_1 : List UInt8 := [181, 0, 20, 42, 29, 181, 0, 23, 42, 22, 4, 181, 0, 26, 177]
abbrev dktX17_init_1 : List UInt8 := dkwX17_init_1 ++ []
def dkwX17_init_0 : List UInt8 := [42, 183, 0, 1, 42, 187, 0, 7, 89, 183, 0, 9, 181, 0, 10, 42, 27, 181, 0, 16, 42, 28]
abbrev dktX17_init_0 : List UInt8 := dkwX17_init_0 ++ dktX17_init_1
theorem dksX17_init_0 : cX17_init.data.toList.drop 0 = dktX17_init_0 := by decide +kernel
theorem dksX17_init_1 : cX17_init.data.toList.drop 22 = dktX17_init_1 := dk_seg dksX17_init_0 22 rfl rfl
theorem dX17_init_0 : decode cX17_init 0 = .ok (.aload_n 0, 1) := dk_42 (dk_at dksX17_init_0 0 rfl rfl)
theorem dX17_init_1 : decode cX17_init 1 = .ok (.invokespecial 1, 3) := dk_183 0 1 (dk_at dksX17_init_0 1 rfl rfl)
theorem dX17_init_4 : decode cX17_init 4 = .ok (.aload_n 0, 1) := dk_42 (dk_at dksX17_init_0 4 rfl rfl)
theorem dX17_init_5 : decode cX17_init 5 = .ok (.new 7, 3) := dk_187 0 7 (dk_at dksX17_init_0 5 rfl rfl)
theorem dX17_init_8 : decode cX17_init 8 = .ok (.dup, 1) := dk_89 (dk_at dksX17_init_0 8 rfl rfl)
theorem dX17_init_9 : decode cX17_init 9 = .ok (.invokespecial 9, 3) := dk_183 0 9 (dk_at dksX17_init_0 9 rfl rfl)
theorem dX17_init_12 : decode cX17_init 12 = .ok (.putfield 10, 3) := dk_181 0 10 (dk_at dksX17_init_0 12 rfl rfl)
theorem dX17_init_15 : decode cX17_init 15 = .ok (.aload_n 0, 1) := dk_42 (dk_at dksX17_init_0 15 rfl rfl)
theorem dX17_init_16 : decode cX17_init 16 = .ok (.iload_n 1, 1) := dk_27 (dk_at dksX17_init_0 16 rfl rfl)
theorem dX17_init_17 : decode cX17_init 17 = .ok (.putfield 16, 3) := dk_181 0 16 (dk_at dksX17_init_0 17 rfl rfl)
theorem dX17_init_20 : decode cX17_init 20 = .ok (.aload_n 0, 1) := dk_42 (dk_at dksX17_init_0 20 rfl rfl)
theorem dX17_init_21 : decode cX17_init 21 = .ok (.iload_n 2, 1) := dk_28 (dk_at dksX17_init_0 21 rfl rfl)
theorem dX17_init_22 : decode cX17_init 22 = .ok (.putfield 20, 3) := dk_181 0 20 (dk_at dksX17_init_1 0 rfl rfl)
theorem dX17_init_25 : decode cX17_init 25 = .ok (.aload_n 0, 1) := dk_42 (dk_at dksX17_init_1 3 rfl rfl)
theorem dX17_init_26 : decode cX17_init 26 = .ok (.iload_n 3, 1) := dk_29 (dk_at dksX17_init_1 4 rfl rfl)
theorem dX17_init_27 : decode cX17_init 27 = .ok (.putfield 23, 3) := dk_181 0 23 (dk_at dksX17_init_1 5 rfl rfl)
theorem dX17_init_30 : decode cX17_init 30 = .ok (.aload_n 0, 1) := dk_42 (dk_at dksX17_init_1 8 rfl rfl)
theorem dX17_init_31 : decode cX17_init 31 = .ok (.lload 4, 2) := dk_22 4 (dk_at dksX17_init_1 9 rfl rfl)
theorem dX17_init_33 : decode cX17_init 33 = .ok (.putfield 26, 3) := dk_181 0 26 (dk_at dksX17_init_1 11 rfl rfl)
theorem dX17_init_36 : decode cX17_init 36 = .ok (.return_, 1) := dk_177 (dk_at dksX17_init_1 14 rfl rfl)
abbrev cX17_isHeld : ByteArray := prog_20_method_2_code
def yX17_isHeld : MethodName := ⟨RX17, "isHeld", "()Z"⟩
def dkwX17_isHeld_2 : List UInt8 := [3, 60, 167, 255, 220, 27, 172]
abbrev dktX17_isHeld_2 : List UInt8 := dkwX17_isHeld_2 ++ []
def dkwX17_isHeld_1 : List UInt8 := [185, 0, 44, 1, 0, 192, 0, 11, 78, 27, 154, 0, 10, 45, 182, 0, 48, 153, 0, 7, 4, 167, 0, 4]
abbrev dktX17_isHeld_1 : List UInt8 := dkwX17_isHeld_1 ++ dktX17_isHeld_2
def dkwX17_isHeld_0 : List UInt8 := [42, 180, 0, 30, 60, 42, 180, 0, 10, 182, 0, 34, 77, 44, 185, 0, 38, 1, 0, 153, 0, 33, 44]
abbrev dktX17_isHeld_0 : List UInt8 := dkwX17_isHeld_0 ++ dktX17_isHeld_1
theorem dksX17_isHeld_0 : cX17_isHeld.data.toList.drop 0 = dktX17_isHeld_0 := by decide +kernel
theorem dksX17_isHeld_1 : cX17_isHeld.data.toList.drop 23 = dktX17_isHeld_1 := dk_seg dksX17_isHeld_0 23 rfl rfl
theorem dksX17_isHeld_2 : cX17_isHeld.data.toList.drop 47 = dktX17_isHeld_2 := dk_seg dksX17_isHeld_1 24 rfl rfl
theorem dX17_isHeld_0 : decode cX17_isHeld 0 = .ok (.aload_n 0, 1) := dk_42 (dk_at dksX17_isHeld_0 0 rfl rfl)
theorem dX17_isHeld_1 : decode cX17_isHeld 1 = .ok (.getfield 30, 3) := dk_180 0 30 (dk_at dksX17_isHeld_0 1 rfl rfl)
theorem dX17_isHeld_4 : decode cX17_isHeld 4 = .ok (.istore_n 1, 1) := dk_60 (dk_at dksX17_isHeld_0 4 rfl rfl)
theorem dX17_isHeld_5 : decode cX17_isHeld 5 = .ok (.aload_n 0, 1) := dk_42 (dk_at dksX17_isHeld_0 5 rfl rfl)
theorem dX17_isHeld_6 : decode cX17_isHeld 6 = .ok (.getfield 10, 3) := dk_180 0 10 (dk_at dksX17_isHeld_0 6 rfl rfl)
theorem dX17_isHeld_9 : decode cX17_isHeld 9 = .ok (.invokevirtual 34, 3) := dk_182 0 34 (dk_at dksX17_isHeld_0 9 rfl rfl)
theorem dX17_isHeld_12 : decode cX17_isHeld 12 = .ok (.astore_n 2, 1) := dk_77 (dk_at dksX17_isHeld_0 12 rfl rfl)
theorem dX17_isHeld_13 : decode cX17_isHeld 13 = .ok (.aload_n 2, 1) := dk_44 (dk_at dksX17_isHeld_0 13 rfl rfl)
theorem dX17_isHeld_14 : decode cX17_isHeld 14 = .ok (.invokeinterface 38 1, 5) := by decide +kernel
theorem dX17_isHeld_19 : decode cX17_isHeld 19 = .ok (.ifCond .eq 33, 3) := dk_153 0 33 (dk_at dksX17_isHeld_0 19 rfl rfl)
theorem dX17_isHeld_22 : decode cX17_isHeld 22 = .ok (.aload_n 2, 1) := dk_44 (dk_at dksX17_isHeld_0 22 rfl rfl)
theorem dX17_isHeld_23 : decode cX17_isHeld 23 = .ok (.invokeinterface 44 1, 5) := by decide +kernel
theorem dX17_isHeld_28 : decode cX17_isHeld 28 = .ok (.checkcast 11, 3) := dk_192 0 11 (dk_at dksX17_isHeld_1 5 rfl rfl)
theorem dX17_isHeld_31 : decode cX17_isHeld 31 = .ok (.astore_n 3, 1) := dk_78 (dk_at dksX17_isHeld_1 8 rfl rfl)
theorem dX17_isHeld_32 : decode cX17_isHeld 32 = .ok (.iload_n 1, 1) := dk_27 (dk_at dksX17_isHeld_1 9 rfl rfl)
theorem dX17_isHeld_33 : decode cX17_isHeld 33 = .ok (.ifCond .ne 10, 3) := dk_154 0 10 (dk_at dksX17_isHeld_1 10 rfl rfl)
theorem dX17_isHeld_36 : decode cX17_isHeld 36 = .ok (.aload_n 3, 1) := dk_45 (dk_at dksX17_isHeld_1 13 rfl rfl)
theorem dX17_isHeld_37 : decode cX17_isHeld 37 = .ok (.invokevirtual 48, 3) := dk_182 0 48 (dk_at dksX17_isHeld_1 14 rfl rfl)
theorem dX17_isHeld_40 : decode cX17_isHeld 40 = .ok (.ifCond .eq 7, 3) := dk_153 0 7 (dk_at dksX17_isHeld_1 17 rfl rfl)
theorem dX17_isHeld_43 : decode cX17_isHeld 43 = .ok (.iconst 1, 1) := dk_4 (dk_at dksX17_isHeld_1 20 rfl rfl)
theorem dX17_isHeld_44 : decode cX17_isHeld 44 = .ok (.goto 4, 3) := dk_167 0 4 (dk_at dksX17_isHeld_1 21 rfl rfl)
theorem dX17_isHeld_47 : decode cX17_isHeld 47 = .ok (.iconst 0, 1) := dk_3 (dk_at dksX17_isHeld_2 0 rfl rfl)
theorem dX17_isHeld_48 : decode cX17_isHeld 48 = .ok (.istore_n 1, 1) := dk_60 (dk_at dksX17_isHeld_2 1 rfl rfl)
theorem dX17_isHeld_49 : decode cX17_isHeld 49 = .ok (.goto (-36), 3) := dk_167 255 220 (dk_at dksX17_isHeld_2 2 rfl rfl)
theorem dX17_isHeld_52 : decode cX17_isHeld 52 = .ok (.iload_n 1, 1) := dk_27 (dk_at dksX17_isHeld_2 5 rfl rfl)
theorem dX17_isHeld_53 : decode cX17_isHeld 53 = .ok (.ireturn, 1) := dk_172 (dk_at dksX17_isHeld_2 6 rfl rfl)
abbrev cX17_has : ByteArray := prog_20_method_3_code
def yX17_has : MethodName := ⟨RX17, "has", "(LFoundrymarkModel$Lot;)Z"⟩
def dkwX17_has_2 : List UInt8 := [182, 0, 51, 153, 0, 7, 4, 167, 0, 4, 3, 61, 167, 255, 211, 28, 172]
abbrev dktX17_has_2 : List UInt8 := dkwX17_has_2 ++ []
def dkwX17_has_1 : List UInt8 := [185, 0, 44, 1, 0, 192, 0, 11, 58, 4, 28, 154, 0, 18, 25, 4, 43, 165, 0, 12, 25, 4, 43]
abbrev dktX17_has_1 : List UInt8 := dkwX17_has_1 ++ dktX17_has_2
def dkwX17_has_0 : List UInt8 := [3, 61, 42, 180, 0, 10, 182, 0, 34, 78, 45, 185, 0, 38, 1, 0, 153, 0, 42, 45]
abbrev dktX17_has_0 : List UInt8 := dkwX17_has_0 ++ dktX17_has_1
theorem dksX17_has_0 : cX17_has.data.toList.drop 0 = dktX17_has_0 := by decide +kernel
theorem dksX17_has_1 : cX17_has.data.toList.drop 20 = dktX17_has_1 := dk_seg dksX17_has_0 20 rfl rfl
theorem dksX17_has_2 : cX17_has.data.toList.drop 43 = dktX17_has_2 := dk_seg dksX17_has_1 23 rfl rfl
theorem dX17_has_0 : decode cX17_has 0 = .ok (.iconst 0, 1) := dk_3 (dk_at dksX17_has_0 0 rfl rfl)
theorem dX17_has_1 : decode cX17_has 1 = .ok (.istore_n 2, 1) := dk_61 (dk_at dksX17_has_0 1 rfl rfl)
theorem dX17_has_2 : decode cX17_has 2 = .ok (.aload_n 0, 1) := dk_42 (dk_at dksX17_has_0 2 rfl rfl)
theorem dX17_has_3 : decode cX17_has 3 = .ok (.getfield 10, 3) := dk_180 0 10 (dk_at dksX17_has_0 3 rfl rfl)
theorem dX17_has_6 : decode cX17_has 6 = .ok (.invokevirtual 34, 3) := dk_182 0 34 (dk_at dksX17_has_0 6 rfl rfl)
theorem dX17_has_9 : decode cX17_has 9 = .ok (.astore_n 3, 1) := dk_78 (dk_at dksX17_has_0 9 rfl rfl)
theorem dX17_has_10 : decode cX17_has 10 = .ok (.aload_n 3, 1) := dk_45 (dk_at dksX17_has_0 10 rfl rfl)
theorem dX17_has_11 : decode cX17_has 11 = .ok (.invokeinterface 38 1, 5) := by decide +kernel
theorem dX17_has_16 : decode cX17_has 16 = .ok (.ifCond .eq 42, 3) := dk_153 0 42 (dk_at dksX17_has_0 16 rfl rfl)
theorem dX17_has_19 : decode cX17_has 19 = .ok (.aload_n 3, 1) := dk_45 (dk_at dksX17_has_0 19 rfl rfl)
theorem dX17_has_20 : decode cX17_has 20 = .ok (.invokeinterface 44 1, 5) := by decide +kernel
theorem dX17_has_25 : decode cX17_has 25 = .ok (.checkcast 11, 3) := dk_192 0 11 (dk_at dksX17_has_1 5 rfl rfl)
theorem dX17_has_28 : decode cX17_has 28 = .ok (.astore 4, 2) := dk_58 4 (dk_at dksX17_has_1 8 rfl rfl)
theorem dX17_has_30 : decode cX17_has 30 = .ok (.iload_n 2, 1) := dk_28 (dk_at dksX17_has_1 10 rfl rfl)
theorem dX17_has_31 : decode cX17_has 31 = .ok (.ifCond .ne 18, 3) := dk_154 0 18 (dk_at dksX17_has_1 11 rfl rfl)
theorem dX17_has_34 : decode cX17_has 34 = .ok (.aload 4, 2) := dk_25 4 (dk_at dksX17_has_1 14 rfl rfl)
theorem dX17_has_36 : decode cX17_has 36 = .ok (.aload_n 1, 1) := dk_43 (dk_at dksX17_has_1 16 rfl rfl)
theorem dX17_has_37 : decode cX17_has 37 = .ok (.if_acmp .eq 12, 3) := dk_165 0 12 (dk_at dksX17_has_1 17 rfl rfl)
theorem dX17_has_40 : decode cX17_has 40 = .ok (.aload 4, 2) := dk_25 4 (dk_at dksX17_has_1 20 rfl rfl)
theorem dX17_has_42 : decode cX17_has 42 = .ok (.aload_n 1, 1) := dk_43 (dk_at dksX17_has_1 22 rfl rfl)
theorem dX17_has_43 : decode cX17_has 43 = .ok (.invokevirtual 51, 3) := dk_182 0 51 (dk_at dksX17_has_2 0 rfl rfl)
theorem dX17_has_46 : decode cX17_has 46 = .ok (.ifCond .eq 7, 3) := dk_153 0 7 (dk_at dksX17_has_2 3 rfl rfl)
theorem dX17_has_49 : decode cX17_has 49 = .ok (.iconst 1, 1) := dk_4 (dk_at dksX17_has_2 6 rfl rfl)
theorem dX17_has_50 : decode cX17_has 50 = .ok (.goto 4, 3) := dk_167 0 4 (dk_at dksX17_has_2 7 rfl rfl)
theorem dX17_has_53 : decode cX17_has 53 = .ok (.iconst 0, 1) := dk_3 (dk_at dksX17_has_2 10 rfl rfl)
theorem dX17_has_54 : decode cX17_has 54 = .ok (.istore_n 2, 1) := dk_61 (dk_at dksX17_has_2 11 rfl rfl)
theorem dX17_has_55 : decode cX17_has 55 = .ok (.goto (-45), 3) := dk_167 255 211 (dk_at dksX17_has_2 12 rfl rfl)
theorem dX17_has_58 : decode cX17_has 58 = .ok (.iload_n 2, 1) := dk_28 (dk_at dksX17_has_2 15 rfl rfl)
theorem dX17_has_59 : decode cX17_has 59 = .ok (.ireturn, 1) := dk_172 (dk_at dksX17_has_2 16 rfl rfl)
theorem q78 : (Jvm.Cond.initialized "FoundrymarkModel$Lot") ∈ lw_all := lw_g (lw_at lw_m1 39 rfl) rfl
theorem q573 : (Jvm.Cond.selects "FoundrymarkModel$Lot" ({ cls := "java/lang/Object", name := "getClass", desc := "()Ljava/lang/Class;" } : Jvm.MethodName) ({ cls := "java/lang/Object", name := "getClass", desc := "()Ljava/lang/Class;" } : Jvm.MethodName)) ∈ lw_all := lw_g (lw_at lw_m3 54 rfl) rfl
theorem q1629 : (Jvm.Cond.instantiable "FoundrymarkModel$Lot" (7 : Nat)) ∈ lw_all := lw_g (lw_at lw_m7 150 rfl) rfl
theorem q1631 : (Jvm.Cond.instanceMethod ({ cls := "FoundrymarkModel$Lot", name := "<init>", desc := "(IIIJ)V" } : Jvm.MethodName)) ∈ lw_all := lw_g (lw_at lw_m7 152 rfl) rfl
theorem q1632 : (Jvm.Cond.code ({ cls := "FoundrymarkModel$Lot", name := "<init>", desc := "(IIIJ)V" } : Jvm.MethodName) prog_20_method_1_code (6 : Nat) (Option.none : Option Jvm.ClassFile.FieldType)) ∈ lw_all := lw_g (lw_at lw_m7 153 rfl) rfl
theorem q1633 : (Jvm.Cond.methodLink "FoundrymarkModel$Lot" (1 : Nat) ({ cls := "java/lang/Object", name := "<init>", desc := "()V" } : Jvm.MethodName)) ∈ lw_all := lw_g (lw_at lw_m7 154 rfl) rfl
theorem q1634 : (Jvm.Cond.classLink "FoundrymarkModel$Lot" (7 : Nat) "java/util/ArrayList") ∈ lw_all := lw_g (lw_at lw_m7 155 rfl) rfl
theorem q1635 : (Jvm.Cond.methodLink "FoundrymarkModel$Lot" (9 : Nat) ({ cls := "java/util/ArrayList", name := "<init>", desc := "()V" } : Jvm.MethodName)) ∈ lw_all := lw_g (lw_at lw_m7 156 rfl) rfl
theorem q1636 : (Jvm.Cond.fieldLink "FoundrymarkModel$Lot" (16 : Nat) "FoundrymarkModel$Lot" "number" "I") ∈ lw_all := lw_g (lw_at lw_m7 157 rfl) rfl
theorem q1638 : (Jvm.Cond.fieldLink "FoundrymarkModel$Lot" (20 : Nat) "FoundrymarkModel$Lot" "part" "I") ∈ lw_all := lw_g (lw_at lw_m7 159 rfl) rfl
theorem q1640 : (Jvm.Cond.fieldLink "FoundrymarkModel$Lot" (23 : Nat) "FoundrymarkModel$Lot" "rest" "I") ∈ lw_all := lw_g (lw_at lw_m7 161 rfl) rfl
theorem q1643 : (Jvm.Cond.fieldLink "FoundrymarkModel$Lot" (26 : Nat) "FoundrymarkModel$Lot" "cost" "J") ∈ lw_all := lw_g (lw_at lw_m7 164 rfl) rfl
theorem q1645 : (Jvm.Cond.fieldLink "FoundrymarkModel$Lot" (30 : Nat) "FoundrymarkModel$Lot" "isOnHold" "Z") ∈ lw_all := lw_g (lw_at lw_m7 166 rfl) rfl
theorem q1647 : (Jvm.Cond.fieldLink "FoundrymarkModel$Lot" (10 : Nat) "FoundrymarkModel$Lot" "of" "Ljava/util/ArrayList;") ∈ lw_all := lw_g (lw_at lw_m7 168 rfl) rfl
theorem q1649 : (Jvm.Cond.laysFinal "FoundrymarkModel$Lot" "FoundrymarkModel$Lot" "number" "I") ∈ lw_all := lw_g (lw_at lw_m7 170 rfl) rfl
theorem q1650 : (Jvm.Cond.soleField "FoundrymarkModel$Lot" "number") ∈ lw_all := lw_g (lw_at lw_m7 171 rfl) rfl
theorem q1651 : (Jvm.Cond.laysFinal "FoundrymarkModel$Lot" "FoundrymarkModel$Lot" "part" "I") ∈ lw_all := lw_g (lw_at lw_m7 172 rfl) rfl
theorem q1652 : (Jvm.Cond.soleField "FoundrymarkModel$Lot" "part") ∈ lw_all := lw_g (lw_at lw_m7 173 rfl) rfl
theorem q1653 : (Jvm.Cond.lays "FoundrymarkModel$Lot" "FoundrymarkModel$Lot" "rest" "I") ∈ lw_all := lw_g (lw_at lw_m7 174 rfl) rfl
theorem q1654 : (Jvm.Cond.soleField "FoundrymarkModel$Lot" "rest") ∈ lw_all := lw_g (lw_at lw_m7 175 rfl) rfl
theorem q1655 : (Jvm.Cond.lays "FoundrymarkModel$Lot" "FoundrymarkModel$Lot" "reserved" "I") ∈ lw_all := lw_g (lw_at lw_m7 176 rfl) rfl
theorem q1656 : (Jvm.Cond.soleField "FoundrymarkModel$Lot" "reserved") ∈ lw_all := lw_g (lw_at lw_m7 177 rfl) rfl
theorem q1657 : (Jvm.Cond.lays "FoundrymarkModel$Lot" "FoundrymarkModel$Lot" "cost" "J") ∈ lw_all := lw_g (lw_at lw_m7 178 rfl) rfl
theorem q1658 : (Jvm.Cond.soleField "FoundrymarkModel$Lot" "cost") ∈ lw_all := lw_g (lw_at lw_m7 179 rfl) rfl
theorem q1659 : (Jvm.Cond.lays "FoundrymarkModel$Lot" "FoundrymarkModel$Lot" "isOnHold" "Z") ∈ lw_all := lw_g (lw_at lw_m7 180 rfl) rfl
theorem q1660 : (Jvm.Cond.soleField "FoundrymarkModel$Lot" "isOnHold") ∈ lw_all := lw_g (lw_at lw_m7 181 rfl) rfl
theorem q1661 : (Jvm.Cond.laysFinal "FoundrymarkModel$Lot" "FoundrymarkModel$Lot" "of" "Ljava/util/ArrayList;") ∈ lw_all := lw_g (lw_at lw_m7 182 rfl) rfl
theorem q1662 : (Jvm.Cond.soleField "FoundrymarkModel$Lot" "of") ∈ lw_all := lw_g (lw_at lw_m7 183 rfl) rfl
theorem q1663 : (Jvm.Cond.superclass "FoundrymarkModel$Lot" "java/lang/Object") ∈ lw_all := lw_g (lw_at lw_m7 184 rfl) rfl
theorem q1695 : (Jvm.Cond.instanceMethod ({ cls := "FoundrymarkModel$Lot", name := "isHeld", desc := "()Z" } : Jvm.MethodName)) ∈ lw_all := lw_g (lw_at lw_m7 216 rfl) rfl
theorem q1696 : (Jvm.Cond.selects "FoundrymarkModel$Lot" ({ cls := "FoundrymarkModel$Lot", name := "isHeld", desc := "()Z" } : Jvm.MethodName) ({ cls := "FoundrymarkModel$Lot", name := "isHeld", desc := "()Z" } : Jvm.MethodName)) ∈ lw_all := lw_g (lw_at lw_m7 217 rfl) rfl
theorem q1697 : (Jvm.Cond.code ({ cls := "FoundrymarkModel$Lot", name := "isHeld", desc := "()Z" } : Jvm.MethodName) prog_20_method_2_code (4 : Nat) (Option.some Jvm.ClassFile.FieldType.boolean)) ∈ lw_all := lw_g (lw_at lw_m7 218 rfl) rfl
theorem q1698 : (Jvm.Cond.methodLink "FoundrymarkModel$Lot" (34 : Nat) ({ cls := "java/util/ArrayList", name := "iterator", desc := "()Ljava/util/Iterator;" } : Jvm.MethodName)) ∈ lw_all := lw_g (lw_at lw_m7 219 rfl) rfl
theorem q1699 : (Jvm.Cond.interfaceEntry "FoundrymarkModel$Lot" (38 : Nat)) ∈ lw_tbl := lw_at lw_m7 220 rfl
theorem q1700 : (Jvm.Cond.methodLink "FoundrymarkModel$Lot" (38 : Nat) ({ cls := "java/util/Iterator", name := "hasNext", desc := "()Z" } : Jvm.MethodName)) ∈ lw_all := lw_g (lw_at lw_m7 221 rfl) rfl
theorem q1701 : (Jvm.Cond.interfaceEntry "FoundrymarkModel$Lot" (44 : Nat)) ∈ lw_tbl := lw_at lw_m7 222 rfl
theorem q1702 : (Jvm.Cond.methodLink "FoundrymarkModel$Lot" (44 : Nat) ({ cls := "java/util/Iterator", name := "next", desc := "()Ljava/lang/Object;" } : Jvm.MethodName)) ∈ lw_all := lw_g (lw_at lw_m7 223 rfl) rfl
theorem q1703 : (Jvm.Cond.classLink "FoundrymarkModel$Lot" (11 : Nat) "FoundrymarkModel$Lot") ∈ lw_all := lw_g (lw_at lw_m7 224 rfl) rfl
theorem q1704 : (Jvm.Cond.methodLink "FoundrymarkModel$Lot" (48 : Nat) ({ cls := "FoundrymarkModel$Lot", name := "isHeld", desc := "()Z" } : Jvm.MethodName)) ∈ lw_all := lw_g (lw_at lw_m7 225 rfl) rfl
theorem q1938 : (Jvm.Cond.instanceMethod ({ cls := "FoundrymarkModel$Lot", name := "has", desc := "(LFoundrymarkModel$Lot;)Z" } : Jvm.MethodName)) ∈ lw_all := lw_g (lw_at lw_m8 219 rfl) rfl
theorem q1939 : (Jvm.Cond.selects "FoundrymarkModel$Lot" ({ cls := "FoundrymarkModel$Lot", name := "has", desc := "(LFoundrymarkModel$Lot;)Z" } : Jvm.MethodName) ({ cls := "FoundrymarkModel$Lot", name := "has", desc := "(LFoundrymarkModel$Lot;)Z" } : Jvm.MethodName)) ∈ lw_all := lw_g (lw_at lw_m8 220 rfl) rfl
theorem q1940 : (Jvm.Cond.code ({ cls := "FoundrymarkModel$Lot", name := "has", desc := "(LFoundrymarkModel$Lot;)Z" } : Jvm.MethodName) prog_20_method_3_code (5 : Nat) (Option.some Jvm.ClassFile.FieldType.boolean)) ∈ lw_all := lw_g (lw_at lw_m8 221 rfl) rfl
theorem q1941 : (Jvm.Cond.methodLink "FoundrymarkModel$Lot" (51 : Nat) ({ cls := "FoundrymarkModel$Lot", name := "has", desc := "(LFoundrymarkModel$Lot;)Z" } : Jvm.MethodName)) ∈ lw_all := lw_g (lw_at lw_m8 222 rfl) rfl
theorem q2004 : (Jvm.Cond.castable "FoundrymarkModel$Lot" "java/lang/Object") ∈ lw_tbl := lw_at lw_m9 45 rfl
theorem in_X17 : ∀ w ∈ wsX170, w ∈ lw_all := lw_in wsX170 [1649, 1651, 1653, 1655, 1657, 1659, 1661] (by decide +kernel) (by decide +kernel)

/-! Foundrymark$Stage -/
set_option maxRecDepth 100000
def RX18 : String := "Foundrymark$Stage"
abbrev cX18_isUnderWay : ByteArray := prog_15_method_4_code
def yX18_isUnderWay : MethodName := ⟨RX18, "isUnderWay", "()Z"⟩
def dkwX18_isUnderWay_0 : List UInt8 := [42, 178, 0, 10, 165, 0, 10, 42, 178, 0, 13, 166, 0, 7, 4, 167, 0, 4, 3, 172]
abbrev dktX18_isUnderWay_0 : List UInt8 := dkwX18_isUnderWay_0 ++ []
theorem dksX18_isUnderWay_0 : cX18_isUnderWay.data.toList.drop 0 = dktX18_isUnderWay_0 := by decide +kernel
theorem dX18_isUnderWay_0 : decode cX18_isUnderWay 0 = .ok (.aload_n 0, 1) := dk_42 (dk_at dksX18_isUnderWay_0 0 rfl rfl)
theorem dX18_isUnderWay_1 : decode cX18_isUnderWay 1 = .ok (.getstatic 10, 3) := dk_178 0 10 (dk_at dksX18_isUnderWay_0 1 rfl rfl)
theorem dX18_isUnderWay_4 : decode cX18_isUnderWay 4 = .ok (.if_acmp .eq 10, 3) := dk_165 0 10 (dk_at dksX18_isUnderWay_0 4 rfl rfl)
theorem dX18_isUnderWay_7 : decode cX18_isUnderWay 7 = .ok (.aload_n 0, 1) := dk_42 (dk_at dksX18_isUnderWay_0 7 rfl rfl)
theorem dX18_isUnderWay_8 : decode cX18_isUnderWay 8 = .ok (.getstatic 13, 3) := dk_178 0 13 (dk_at dksX18_isUnderWay_0 8 rfl rfl)
theorem dX18_isUnderWay_11 : decode cX18_isUnderWay 11 = .ok (.if_acmp .ne 7, 3) := dk_166 0 7 (dk_at dksX18_isUnderWay_0 11 rfl rfl)
theorem dX18_isUnderWay_14 : decode cX18_isUnderWay 14 = .ok (.iconst 1, 1) := dk_4 (dk_at dksX18_isUnderWay_0 14 rfl rfl)
theorem dX18_isUnderWay_15 : decode cX18_isUnderWay 15 = .ok (.goto 4, 3) := dk_167 0 4 (dk_at dksX18_isUnderWay_0 15 rfl rfl)
theorem dX18_isUnderWay_18 : decode cX18_isUnderWay 18 = .ok (.iconst 0, 1) := dk_3 (dk_at dksX18_isUnderWay_0 18 rfl rfl)
theorem dX18_isUnderWay_19 : decode cX18_isUnderWay 19 = .ok (.ireturn, 1) := dk_172 (dk_at dksX18_isUnderWay_0 19 rfl rfl)
theorem q81 : (Jvm.Cond.initialized "Foundrymark$Stage") ∈ lw_all := lw_g (lw_at lw_m1 42 rfl) rfl
theorem q377 : (Jvm.Cond.laysStatic "Foundrymark$Stage" "PROMISED" "LFoundrymark$Stage;") ∈ lw_tbl := lw_at lw_m2 98 rfl
theorem q388 : (Jvm.Cond.instanceMethod ({ cls := "Foundrymark$Stage", name := "isUnderWay", desc := "()Z" } : Jvm.MethodName)) ∈ lw_all := lw_g (lw_at lw_m2 109 rfl) rfl
theorem q389 : (Jvm.Cond.selects "Foundrymark$Stage" ({ cls := "Foundrymark$Stage", name := "isUnderWay", desc := "()Z" } : Jvm.MethodName) ({ cls := "Foundrymark$Stage", name := "isUnderWay", desc := "()Z" } : Jvm.MethodName)) ∈ lw_all := lw_g (lw_at lw_m2 110 rfl) rfl
theorem q390 : (Jvm.Cond.code ({ cls := "Foundrymark$Stage", name := "isUnderWay", desc := "()Z" } : Jvm.MethodName) prog_15_method_4_code (1 : Nat) (Option.some Jvm.ClassFile.FieldType.boolean)) ∈ lw_all := lw_g (lw_at lw_m2 111 rfl) rfl
theorem q391 : (Jvm.Cond.fieldLink "Foundrymark$Stage" (10 : Nat) "Foundrymark$Stage" "WAITING" "LFoundrymark$Stage;") ∈ lw_all := lw_g (lw_at lw_m2 112 rfl) rfl
theorem q392 : (Jvm.Cond.laysStatic "Foundrymark$Stage" "WAITING" "LFoundrymark$Stage;") ∈ lw_tbl := lw_at lw_m2 113 rfl
theorem q393 : (Jvm.Cond.fieldLink "Foundrymark$Stage" (13 : Nat) "Foundrymark$Stage" "WORKING" "LFoundrymark$Stage;") ∈ lw_all := lw_g (lw_at lw_m2 114 rfl) rfl
theorem q394 : (Jvm.Cond.laysStatic "Foundrymark$Stage" "WORKING" "LFoundrymark$Stage;") ∈ lw_tbl := lw_at lw_m2 115 rfl
theorem q569 : (Jvm.Cond.selects "Foundrymark$Stage" ({ cls := "java/lang/Object", name := "getClass", desc := "()Ljava/lang/Class;" } : Jvm.MethodName) ({ cls := "java/lang/Object", name := "getClass", desc := "()Ljava/lang/Class;" } : Jvm.MethodName)) ∈ lw_all := lw_g (lw_at lw_m3 50 rfl) rfl
theorem q912 : (Jvm.Cond.laysStatic "Foundrymark$Stage" "NEW" "LFoundrymark$Stage;") ∈ lw_tbl := lw_at lw_m4 153 rfl
theorem q1139 : (Jvm.Cond.laysStatic "Foundrymark$Stage" "FINISHED" "LFoundrymark$Stage;") ∈ lw_tbl := lw_at lw_m5 140 rfl
theorem q1209 : (Jvm.Cond.selects "Foundrymark$Stage" ({ cls := "java/lang/Enum", name := "compareTo", desc := "(Ljava/lang/Enum;)I" } : Jvm.MethodName) ({ cls := "java/lang/Enum", name := "compareTo", desc := "(Ljava/lang/Enum;)I" } : Jvm.MethodName)) ∈ lw_all := lw_g (lw_at lw_m5 210 rfl) rfl
theorem q1218 : (Jvm.Cond.selects "Foundrymark$Stage" ({ cls := "java/lang/Enum", name := "getDeclaringClass", desc := "()Ljava/lang/Class;" } : Jvm.MethodName) ({ cls := "java/lang/Enum", name := "getDeclaringClass", desc := "()Ljava/lang/Class;" } : Jvm.MethodName)) ∈ lw_all := lw_g (lw_at lw_m5 219 rfl) rfl
theorem q1226 : (Jvm.Cond.castable "Foundrymark$Stage" "java/lang/Comparable") ∈ lw_tbl := lw_at lw_m5 227 rfl
theorem q1227 : (Jvm.Cond.selects "Foundrymark$Stage" ({ cls := "java/lang/Comparable", name := "compareTo", desc := "(Ljava/lang/Object;)I" } : Jvm.MethodName) ({ cls := "java/lang/Enum", name := "compareTo", desc := "(Ljava/lang/Object;)I" } : Jvm.MethodName)) ∈ lw_all := lw_g (lw_at lw_m5 228 rfl) rfl
theorem q1228 : (Jvm.Cond.unhidden "Foundrymark$Stage" "compareTo" "(Ljava/lang/Object;)I") ∈ lw_tbl := lw_at lw_m5 229 rfl
theorem q1345 : (Jvm.Cond.laysStatic "Foundrymark$Stage" "DELIVERED" "LFoundrymark$Stage;") ∈ lw_tbl := lw_at lw_m6 106 rfl
theorem q1978 : (Jvm.Cond.castable "Foundrymark$Stage" "java/lang/Enum") ∈ lw_tbl := lw_at lw_m9 19 rfl
theorem q2007 : (Jvm.Cond.castable "Foundrymark$Stage" "java/lang/Object") ∈ lw_tbl := lw_at lw_m9 48 rfl

/-! Foundrymark$Order -/
set_option maxRecDepth 100000
def RX19 : String := "Foundrymark$Order"
def TX19 : u_T := fun k => match k with
  | 0 => ("Foundrymark$Order", "number", "I", true)
  | 1 => ("Foundrymark$Order", "part", "LFoundrymark$Part;", true)
  | 2 => ("Foundrymark$Order", "quantity", "I", true)
  | 3 => ("Foundrymark$Order", "option", "I", true)
  | 4 => ("Foundrymark$Order", "due", "I", true)
  | 5 => ("Foundrymark$Order", "taken", "Ljava/util/ArrayList;", true)
  | 6 => ("Foundrymark$Order", "delivered", "Ljava/util/ArrayList;", true)
  | 7 => ("Foundrymark$Order", "stage", "LFoundrymark$Stage;", false)
  | 8 => ("Foundrymark$Order", "pieces", "I", false)
  | 9 => ("Foundrymark$Order", "next", "I", false)
  | 10 => ("Foundrymark$Order", "cost", "J", false)
  | 11 => ("Foundrymark$Order", "finishedAt", "I", false)
  | 12 => ("Foundrymark$Order", "deliveredAt", "I", false)
  | _ => ("Foundrymark$Order", "lot", "LFoundrymark$Lot;", false)
def tyX19 : Nat → FieldType := fun k => match k with
  | 0 => .int
  | 1 => .object "Foundrymark$Part"
  | 2 => .int
  | 3 => .int
  | 4 => .int
  | 5 => .object "java/util/ArrayList"
  | 6 => .object "java/util/ArrayList"
  | 7 => .object "Foundrymark$Stage"
  | 8 => .int
  | 9 => .int
  | 10 => .long
  | 11 => .int
  | 12 => .int
  | _ => .object "Foundrymark$Lot"
abbrev wsX190 : List Cond := u_ws RX19 TX19 14
set_option maxRecDepth 100000 in
theorem nmX19 : ∀ a, a < 14 → ∀ b, b < 14 → a ≠ b → (TX19 a).2.1 ≠ (TX19 b).2.1 := by decide +kernel
set_option maxRecDepth 100000 in
theorem tyX19_ok : ∀ k, k < 14 → parseFieldDescriptor (TX19 k).2.2.1 = some (tyX19 k) := by decide +kernel
abbrev cX19_init : ByteArray := prog_9_method_1_code
def yX19_init : MethodName := ⟨RX19, "<init>", "(ILFoundrymark$Part;III)V"⟩
def dkwX19_init_2 : List UInt8 := [181, 0, 36, 42, 21, 4, 181, 0, 39, 42, 21, 5, 181, 0, 42, 177]
abbrev dktX19_init_2 : List UInt8 := dkwX19_init_2 ++ []
def dkwX19_init_1 : List UInt8 := [181, 0, 16, 42, 178, 0, 19, 181, 0, 25, 42, 27, 181, 0, 28, 42, 44, 181, 0, 32, 42, 29]
abbrev dktX19_init_1 : List UInt8 := dkwX19_init_1 ++ dktX19_init_2
def dkwX19_init_0 : List UInt8 := [42, 183, 0, 1, 42, 187, 0, 7, 89, 183, 0, 9, 181, 0, 10, 42, 187, 0, 7, 89, 183, 0, 9]
abbrev dktX19_init_0 : List UInt8 := dkwX19_init_0 ++ dktX19_init_1
theorem dksX19_init_0 : cX19_init.data.toList.drop 0 = dktX19_init_0 := by decide +kernel
theorem dksX19_init_1 : cX19_init.data.toList.drop 23 = dktX19_init_1 := dk_seg dksX19_init_0 23 rfl rfl
theorem dksX19_init_2 : cX19_init.data.toList.drop 45 = dktX19_init_2 := dk_seg dksX19_init_1 22 rfl rfl
theorem dX19_init_0 : decode cX19_init 0 = .ok (.aload_n 0, 1) := dk_42 (dk_at dksX19_init_0 0 rfl rfl)
theorem dX19_init_1 : decode cX19_init 1 = .ok (.invokespecial 1, 3) := dk_183 0 1 (dk_at dksX19_init_0 1 rfl rfl)
theorem dX19_init_4 : decode cX19_init 4 = .ok (.aload_n 0, 1) := dk_42 (dk_at dksX19_init_0 4 rfl rfl)
theorem dX19_init_5 : decode cX19_init 5 = .ok (.new 7, 3) := dk_187 0 7 (dk_at dksX19_init_0 5 rfl rfl)
theorem dX19_init_8 : decode cX19_init 8 = .ok (.dup, 1) := dk_89 (dk_at dksX19_init_0 8 rfl rfl)
theorem dX19_init_9 : decode cX19_init 9 = .ok (.invokespecial 9, 3) := dk_183 0 9 (dk_at dksX19_init_0 9 rfl rfl)
theorem dX19_init_12 : decode cX19_init 12 = .ok (.putfield 10, 3) := dk_181 0 10 (dk_at dksX19_init_0 12 rfl rfl)
theorem dX19_init_15 : decode cX19_init 15 = .ok (.aload_n 0, 1) := dk_42 (dk_at dksX19_init_0 15 rfl rfl)
theorem dX19_init_16 : decode cX19_init 16 = .ok (.new 7, 3) := dk_187 0 7 (dk_at dksX19_init_0 16 rfl rfl)
theorem dX19_init_19 : decode cX19_init 19 = .ok (.dup, 1) := dk_89 (dk_at dksX19_init_0 19 rfl rfl)
theorem dX19_init_20 : decode cX19_init 20 = .ok (.invokespecial 9, 3) := dk_183 0 9 (dk_at dksX19_init_0 20 rfl rfl)
theorem dX19_init_23 : decode cX19_init 23 = .ok (.putfield 16, 3) := dk_181 0 16 (dk_at dksX19_init_1 0 rfl rfl)
theorem dX19_init_26 : decode cX19_init 26 = .ok (.aload_n 0, 1) := dk_42 (dk_at dksX19_init_1 3 rfl rfl)
theorem dX19_init_27 : decode cX19_init 27 = .ok (.getstatic 19, 3) := dk_178 0 19 (dk_at dksX19_init_1 4 rfl rfl)
theorem dX19_init_30 : decode cX19_init 30 = .ok (.putfield 25, 3) := dk_181 0 25 (dk_at dksX19_init_1 7 rfl rfl)
theorem dX19_init_33 : decode cX19_init 33 = .ok (.aload_n 0, 1) := dk_42 (dk_at dksX19_init_1 10 rfl rfl)
theorem dX19_init_34 : decode cX19_init 34 = .ok (.iload_n 1, 1) := dk_27 (dk_at dksX19_init_1 11 rfl rfl)
theorem dX19_init_35 : decode cX19_init 35 = .ok (.putfield 28, 3) := dk_181 0 28 (dk_at dksX19_init_1 12 rfl rfl)
theorem dX19_init_38 : decode cX19_init 38 = .ok (.aload_n 0, 1) := dk_42 (dk_at dksX19_init_1 15 rfl rfl)
theorem dX19_init_39 : decode cX19_init 39 = .ok (.aload_n 2, 1) := dk_44 (dk_at dksX19_init_1 16 rfl rfl)
theorem dX19_init_40 : decode cX19_init 40 = .ok (.putfield 32, 3) := dk_181 0 32 (dk_at dksX19_init_1 17 rfl rfl)
theorem dX19_init_43 : decode cX19_init 43 = .ok (.aload_n 0, 1) := dk_42 (dk_at dksX19_init_1 20 rfl rfl)
theorem dX19_init_44 : decode cX19_init 44 = .ok (.iload_n 3, 1) := dk_29 (dk_at dksX19_init_1 21 rfl rfl)
theorem dX19_init_45 : decode cX19_init 45 = .ok (.putfield 36, 3) := dk_181 0 36 (dk_at dksX19_init_2 0 rfl rfl)
theorem dX19_init_48 : decode cX19_init 48 = .ok (.aload_n 0, 1) := dk_42 (dk_at dksX19_init_2 3 rfl rfl)
theorem dX19_init_49 : decode cX19_init 49 = .ok (.iload 4, 2) := dk_21 4 (dk_at dksX19_init_2 4 rfl rfl)
theorem dX19_init_51 : decode cX19_init 51 = .ok (.putfield 39, 3) := dk_181 0 39 (dk_at dksX19_init_2 6 rfl rfl)
theorem dX19_init_54 : decode cX19_init 54 = .ok (.aload_n 0, 1) := dk_42 (dk_at dksX19_init_2 9 rfl rfl)
theorem dX19_init_55 : decode cX19_init 55 = .ok (.iload 5, 2) := dk_21 5 (dk_at dksX19_init_2 10 rfl rfl)
theorem dX19_init_57 : decode cX19_init 57 = .ok (.putfield 42, 3) := dk_181 0 42 (dk_at dksX19_init_2 12 rfl rfl)
theorem dX19_init_60 : decode cX19_init 60 = .ok (.return_, 1) := dk_177 (dk_at dksX19_init_2 15 rfl rfl)
abbrev cX19_compareTo : ByteArray := prog_9_method_3_code
def yX19_compareTo : MethodName := ⟨RX19, "compareTo", "(Ljava/lang/Object;)I"⟩
def dkwX19_compareTo_0 : List UInt8 := [42, 43, 192, 0, 11, 182, 0, 51, 172]
abbrev dktX19_compareTo_0 : List UInt8 := dkwX19_compareTo_0 ++ []
theorem dksX19_compareTo_0 : cX19_compareTo.data.toList.drop 0 = dktX19_compareTo_0 := by decide +kernel
theorem dX19_compareTo_0 : decode cX19_compareTo 0 = .ok (.aload_n 0, 1) := dk_42 (dk_at dksX19_compareTo_0 0 rfl rfl)
theorem dX19_compareTo_1 : decode cX19_compareTo 1 = .ok (.aload_n 1, 1) := dk_43 (dk_at dksX19_compareTo_0 1 rfl rfl)
theorem dX19_compareTo_2 : decode cX19_compareTo 2 = .ok (.checkcast 11, 3) := dk_192 0 11 (dk_at dksX19_compareTo_0 2 rfl rfl)
theorem dX19_compareTo_5 : decode cX19_compareTo 5 = .ok (.invokevirtual 51, 3) := dk_182 0 51 (dk_at dksX19_compareTo_0 5 rfl rfl)
theorem dX19_compareTo_8 : decode cX19_compareTo 8 = .ok (.ireturn, 1) := dk_172 (dk_at dksX19_compareTo_0 8 rfl rfl)
abbrev cX19_compareTo_2 : ByteArray := prog_9_method_2_code
def yX19_compareTo_2 : MethodName := ⟨RX19, "compareTo", "(LFoundrymark$Order;)I"⟩
def dkwX19_compareTo_2_1 : List UInt8 := [167, 0, 14, 42, 180, 0, 42, 43, 180, 0, 42, 184, 0, 45, 172]
abbrev dktX19_compareTo_2_1 : List UInt8 := dkwX19_compareTo_2_1 ++ []
def dkwX19_compareTo_2_0 : List UInt8 := [42, 180, 0, 42, 43, 180, 0, 42, 160, 0, 17, 42, 180, 0, 28, 43, 180, 0, 28, 184, 0, 45]
abbrev dktX19_compareTo_2_0 : List UInt8 := dkwX19_compareTo_2_0 ++ dktX19_compareTo_2_1
theorem dksX19_compareTo_2_0 : cX19_compareTo_2.data.toList.drop 0 = dktX19_compareTo_2_0 := by decide +kernel
theorem dksX19_compareTo_2_1 : cX19_compareTo_2.data.toList.drop 22 = dktX19_compareTo_2_1 := dk_seg dksX19_compareTo_2_0 22 rfl rfl
theorem dX19_compareTo_2_0 : decode cX19_compareTo_2 0 = .ok (.aload_n 0, 1) := dk_42 (dk_at dksX19_compareTo_2_0 0 rfl rfl)
theorem dX19_compareTo_2_1 : decode cX19_compareTo_2 1 = .ok (.getfield 42, 3) := dk_180 0 42 (dk_at dksX19_compareTo_2_0 1 rfl rfl)
theorem dX19_compareTo_2_4 : decode cX19_compareTo_2 4 = .ok (.aload_n 1, 1) := dk_43 (dk_at dksX19_compareTo_2_0 4 rfl rfl)
theorem dX19_compareTo_2_5 : decode cX19_compareTo_2 5 = .ok (.getfield 42, 3) := dk_180 0 42 (dk_at dksX19_compareTo_2_0 5 rfl rfl)
theorem dX19_compareTo_2_8 : decode cX19_compareTo_2 8 = .ok (.if_icmp .ne 17, 3) := dk_160 0 17 (dk_at dksX19_compareTo_2_0 8 rfl rfl)
theorem dX19_compareTo_2_11 : decode cX19_compareTo_2 11 = .ok (.aload_n 0, 1) := dk_42 (dk_at dksX19_compareTo_2_0 11 rfl rfl)
theorem dX19_compareTo_2_12 : decode cX19_compareTo_2 12 = .ok (.getfield 28, 3) := dk_180 0 28 (dk_at dksX19_compareTo_2_0 12 rfl rfl)
theorem dX19_compareTo_2_15 : decode cX19_compareTo_2 15 = .ok (.aload_n 1, 1) := dk_43 (dk_at dksX19_compareTo_2_0 15 rfl rfl)
theorem dX19_compareTo_2_16 : decode cX19_compareTo_2 16 = .ok (.getfield 28, 3) := dk_180 0 28 (dk_at dksX19_compareTo_2_0 16 rfl rfl)
theorem dX19_compareTo_2_19 : decode cX19_compareTo_2 19 = .ok (.invokestatic 45, 3) := dk_184 0 45 (dk_at dksX19_compareTo_2_0 19 rfl rfl)
theorem dX19_compareTo_2_22 : decode cX19_compareTo_2 22 = .ok (.goto 14, 3) := dk_167 0 14 (dk_at dksX19_compareTo_2_1 0 rfl rfl)
theorem dX19_compareTo_2_25 : decode cX19_compareTo_2 25 = .ok (.aload_n 0, 1) := dk_42 (dk_at dksX19_compareTo_2_1 3 rfl rfl)
theorem dX19_compareTo_2_26 : decode cX19_compareTo_2 26 = .ok (.getfield 42, 3) := dk_180 0 42 (dk_at dksX19_compareTo_2_1 4 rfl rfl)
theorem dX19_compareTo_2_29 : decode cX19_compareTo_2 29 = .ok (.aload_n 1, 1) := dk_43 (dk_at dksX19_compareTo_2_1 7 rfl rfl)
theorem dX19_compareTo_2_30 : decode cX19_compareTo_2 30 = .ok (.getfield 42, 3) := dk_180 0 42 (dk_at dksX19_compareTo_2_1 8 rfl rfl)
theorem dX19_compareTo_2_33 : decode cX19_compareTo_2 33 = .ok (.invokestatic 45, 3) := dk_184 0 45 (dk_at dksX19_compareTo_2_1 11 rfl rfl)
theorem dX19_compareTo_2_36 : decode cX19_compareTo_2 36 = .ok (.ireturn, 1) := dk_172 (dk_at dksX19_compareTo_2_1 14 rfl rfl)
theorem q82 : (Jvm.Cond.initialized "Foundrymark$Order") ∈ lw_all := lw_g (lw_at lw_m1 43 rfl) rfl
theorem q565 : (Jvm.Cond.selects "Foundrymark$Order" ({ cls := "java/lang/Object", name := "getClass", desc := "()Ljava/lang/Class;" } : Jvm.MethodName) ({ cls := "java/lang/Object", name := "getClass", desc := "()Ljava/lang/Class;" } : Jvm.MethodName)) ∈ lw_all := lw_g (lw_at lw_m3 46 rfl) rfl
theorem q978 : (Jvm.Cond.instantiable "Foundrymark$Order" (14 : Nat)) ∈ lw_all := lw_g (lw_at lw_m4 219 rfl) rfl
theorem q980 : (Jvm.Cond.instanceMethod ({ cls := "Foundrymark$Order", name := "<init>", desc := "(ILFoundrymark$Part;III)V" } : Jvm.MethodName)) ∈ lw_all := lw_g (lw_at lw_m4 221 rfl) rfl
theorem q981 : (Jvm.Cond.code ({ cls := "Foundrymark$Order", name := "<init>", desc := "(ILFoundrymark$Part;III)V" } : Jvm.MethodName) prog_9_method_1_code (6 : Nat) (Option.none : Option Jvm.ClassFile.FieldType)) ∈ lw_all := lw_g (lw_at lw_m4 222 rfl) rfl
theorem q982 : (Jvm.Cond.methodLink "Foundrymark$Order" (1 : Nat) ({ cls := "java/lang/Object", name := "<init>", desc := "()V" } : Jvm.MethodName)) ∈ lw_all := lw_g (lw_at lw_m4 223 rfl) rfl
theorem q983 : (Jvm.Cond.classLink "Foundrymark$Order" (7 : Nat) "java/util/ArrayList") ∈ lw_all := lw_g (lw_at lw_m4 224 rfl) rfl
theorem q984 : (Jvm.Cond.methodLink "Foundrymark$Order" (9 : Nat) ({ cls := "java/util/ArrayList", name := "<init>", desc := "()V" } : Jvm.MethodName)) ∈ lw_all := lw_g (lw_at lw_m4 225 rfl) rfl
theorem q985 : (Jvm.Cond.fieldLink "Foundrymark$Order" (19 : Nat) "Foundrymark$Stage" "NEW" "LFoundrymark$Stage;") ∈ lw_all := lw_g (lw_at lw_m4 226 rfl) rfl
theorem q986 : (Jvm.Cond.fieldLink "Foundrymark$Order" (28 : Nat) "Foundrymark$Order" "number" "I") ∈ lw_all := lw_g (lw_at lw_m4 227 rfl) rfl
theorem q987 : (Jvm.Cond.fieldLink "Foundrymark$Order" (32 : Nat) "Foundrymark$Order" "part" "LFoundrymark$Part;") ∈ lw_all := lw_g (lw_at lw_m4 228 rfl) rfl
theorem q989 : (Jvm.Cond.fieldLink "Foundrymark$Order" (36 : Nat) "Foundrymark$Order" "quantity" "I") ∈ lw_all := lw_g (lw_at lw_m4 230 rfl) rfl
theorem q991 : (Jvm.Cond.fieldLink "Foundrymark$Order" (39 : Nat) "Foundrymark$Order" "option" "I") ∈ lw_all := lw_g (lw_at lw_m4 232 rfl) rfl
theorem q993 : (Jvm.Cond.fieldLink "Foundrymark$Order" (42 : Nat) "Foundrymark$Order" "due" "I") ∈ lw_all := lw_g (lw_at lw_m4 234 rfl) rfl
theorem q995 : (Jvm.Cond.fieldLink "Foundrymark$Order" (10 : Nat) "Foundrymark$Order" "taken" "Ljava/util/ArrayList;") ∈ lw_all := lw_g (lw_at lw_m4 236 rfl) rfl
theorem q997 : (Jvm.Cond.fieldLink "Foundrymark$Order" (16 : Nat) "Foundrymark$Order" "delivered" "Ljava/util/ArrayList;") ∈ lw_all := lw_g (lw_at lw_m4 238 rfl) rfl
theorem q999 : (Jvm.Cond.fieldLink "Foundrymark$Order" (25 : Nat) "Foundrymark$Order" "stage" "LFoundrymark$Stage;") ∈ lw_all := lw_g (lw_at lw_m5 0 rfl) rfl
theorem q1007 : (Jvm.Cond.laysFinal "Foundrymark$Order" "Foundrymark$Order" "number" "I") ∈ lw_all := lw_g (lw_at lw_m5 8 rfl) rfl
theorem q1008 : (Jvm.Cond.soleField "Foundrymark$Order" "number") ∈ lw_all := lw_g (lw_at lw_m5 9 rfl) rfl
theorem q1009 : (Jvm.Cond.laysFinal "Foundrymark$Order" "Foundrymark$Order" "part" "LFoundrymark$Part;") ∈ lw_all := lw_g (lw_at lw_m5 10 rfl) rfl
theorem q1010 : (Jvm.Cond.soleField "Foundrymark$Order" "part") ∈ lw_all := lw_g (lw_at lw_m5 11 rfl) rfl
theorem q1011 : (Jvm.Cond.laysFinal "Foundrymark$Order" "Foundrymark$Order" "quantity" "I") ∈ lw_all := lw_g (lw_at lw_m5 12 rfl) rfl
theorem q1012 : (Jvm.Cond.soleField "Foundrymark$Order" "quantity") ∈ lw_all := lw_g (lw_at lw_m5 13 rfl) rfl
theorem q1013 : (Jvm.Cond.laysFinal "Foundrymark$Order" "Foundrymark$Order" "option" "I") ∈ lw_all := lw_g (lw_at lw_m5 14 rfl) rfl
theorem q1014 : (Jvm.Cond.soleField "Foundrymark$Order" "option") ∈ lw_all := lw_g (lw_at lw_m5 15 rfl) rfl
theorem q1015 : (Jvm.Cond.laysFinal "Foundrymark$Order" "Foundrymark$Order" "due" "I") ∈ lw_all := lw_g (lw_at lw_m5 16 rfl) rfl
theorem q1016 : (Jvm.Cond.soleField "Foundrymark$Order" "due") ∈ lw_all := lw_g (lw_at lw_m5 17 rfl) rfl
theorem q1017 : (Jvm.Cond.laysFinal "Foundrymark$Order" "Foundrymark$Order" "taken" "Ljava/util/ArrayList;") ∈ lw_all := lw_g (lw_at lw_m5 18 rfl) rfl
theorem q1018 : (Jvm.Cond.soleField "Foundrymark$Order" "taken") ∈ lw_all := lw_g (lw_at lw_m5 19 rfl) rfl
theorem q1019 : (Jvm.Cond.laysFinal "Foundrymark$Order" "Foundrymark$Order" "delivered" "Ljava/util/ArrayList;") ∈ lw_all := lw_g (lw_at lw_m5 20 rfl) rfl
theorem q1020 : (Jvm.Cond.soleField "Foundrymark$Order" "delivered") ∈ lw_all := lw_g (lw_at lw_m5 21 rfl) rfl
theorem q1021 : (Jvm.Cond.lays "Foundrymark$Order" "Foundrymark$Order" "stage" "LFoundrymark$Stage;") ∈ lw_all := lw_g (lw_at lw_m5 22 rfl) rfl
theorem q1022 : (Jvm.Cond.soleField "Foundrymark$Order" "stage") ∈ lw_all := lw_g (lw_at lw_m5 23 rfl) rfl
theorem q1023 : (Jvm.Cond.lays "Foundrymark$Order" "Foundrymark$Order" "pieces" "I") ∈ lw_all := lw_g (lw_at lw_m5 24 rfl) rfl
theorem q1024 : (Jvm.Cond.soleField "Foundrymark$Order" "pieces") ∈ lw_all := lw_g (lw_at lw_m5 25 rfl) rfl
theorem q1025 : (Jvm.Cond.lays "Foundrymark$Order" "Foundrymark$Order" "next" "I") ∈ lw_all := lw_g (lw_at lw_m5 26 rfl) rfl
theorem q1026 : (Jvm.Cond.soleField "Foundrymark$Order" "next") ∈ lw_all := lw_g (lw_at lw_m5 27 rfl) rfl
theorem q1027 : (Jvm.Cond.lays "Foundrymark$Order" "Foundrymark$Order" "cost" "J") ∈ lw_all := lw_g (lw_at lw_m5 28 rfl) rfl
theorem q1028 : (Jvm.Cond.soleField "Foundrymark$Order" "cost") ∈ lw_all := lw_g (lw_at lw_m5 29 rfl) rfl
theorem q1029 : (Jvm.Cond.lays "Foundrymark$Order" "Foundrymark$Order" "finishedAt" "I") ∈ lw_all := lw_g (lw_at lw_m5 30 rfl) rfl
theorem q1030 : (Jvm.Cond.soleField "Foundrymark$Order" "finishedAt") ∈ lw_all := lw_g (lw_at lw_m5 31 rfl) rfl
theorem q1031 : (Jvm.Cond.lays "Foundrymark$Order" "Foundrymark$Order" "deliveredAt" "I") ∈ lw_all := lw_g (lw_at lw_m5 32 rfl) rfl
theorem q1032 : (Jvm.Cond.soleField "Foundrymark$Order" "deliveredAt") ∈ lw_all := lw_g (lw_at lw_m5 33 rfl) rfl
theorem q1033 : (Jvm.Cond.lays "Foundrymark$Order" "Foundrymark$Order" "lot" "LFoundrymark$Lot;") ∈ lw_all := lw_g (lw_at lw_m5 34 rfl) rfl
theorem q1034 : (Jvm.Cond.soleField "Foundrymark$Order" "lot") ∈ lw_all := lw_g (lw_at lw_m5 35 rfl) rfl
theorem q1035 : (Jvm.Cond.superclass "Foundrymark$Order" "java/lang/Object") ∈ lw_all := lw_g (lw_at lw_m5 36 rfl) rfl
theorem q1182 : (Jvm.Cond.castable "Foundrymark$Order" "java/lang/Comparable") ∈ lw_tbl := lw_at lw_m5 183 rfl
theorem q1183 : (Jvm.Cond.selects "Foundrymark$Order" ({ cls := "java/lang/Comparable", name := "compareTo", desc := "(Ljava/lang/Object;)I" } : Jvm.MethodName) ({ cls := "Foundrymark$Order", name := "compareTo", desc := "(Ljava/lang/Object;)I" } : Jvm.MethodName)) ∈ lw_all := lw_g (lw_at lw_m5 184 rfl) rfl
theorem q1184 : (Jvm.Cond.unhidden "Foundrymark$Order" "compareTo" "(Ljava/lang/Object;)I") ∈ lw_tbl := lw_at lw_m5 185 rfl
theorem q1185 : (Jvm.Cond.instanceMethod ({ cls := "Foundrymark$Order", name := "compareTo", desc := "(Ljava/lang/Object;)I" } : Jvm.MethodName)) ∈ lw_all := lw_g (lw_at lw_m5 186 rfl) rfl
theorem q1186 : (Jvm.Cond.publicMethod ({ cls := "Foundrymark$Order", name := "compareTo", desc := "(Ljava/lang/Object;)I" } : Jvm.MethodName)) ∈ lw_tbl := lw_at lw_m5 187 rfl
theorem q1187 : (Jvm.Cond.code ({ cls := "Foundrymark$Order", name := "compareTo", desc := "(Ljava/lang/Object;)I" } : Jvm.MethodName) prog_9_method_3_code (2 : Nat) (Option.some Jvm.ClassFile.FieldType.int)) ∈ lw_all := lw_g (lw_at lw_m5 188 rfl) rfl
theorem q1188 : (Jvm.Cond.classLink "Foundrymark$Order" (11 : Nat) "Foundrymark$Order") ∈ lw_all := lw_g (lw_at lw_m5 189 rfl) rfl
theorem q1189 : (Jvm.Cond.methodLink "Foundrymark$Order" (51 : Nat) ({ cls := "Foundrymark$Order", name := "compareTo", desc := "(LFoundrymark$Order;)I" } : Jvm.MethodName)) ∈ lw_all := lw_g (lw_at lw_m5 190 rfl) rfl
theorem q1190 : (Jvm.Cond.instanceMethod ({ cls := "Foundrymark$Order", name := "compareTo", desc := "(LFoundrymark$Order;)I" } : Jvm.MethodName)) ∈ lw_all := lw_g (lw_at lw_m5 191 rfl) rfl
theorem q1191 : (Jvm.Cond.selects "Foundrymark$Order" ({ cls := "Foundrymark$Order", name := "compareTo", desc := "(LFoundrymark$Order;)I" } : Jvm.MethodName) ({ cls := "Foundrymark$Order", name := "compareTo", desc := "(LFoundrymark$Order;)I" } : Jvm.MethodName)) ∈ lw_all := lw_g (lw_at lw_m5 192 rfl) rfl
theorem q1192 : (Jvm.Cond.code ({ cls := "Foundrymark$Order", name := "compareTo", desc := "(LFoundrymark$Order;)I" } : Jvm.MethodName) prog_9_method_2_code (2 : Nat) (Option.some Jvm.ClassFile.FieldType.int)) ∈ lw_all := lw_g (lw_at lw_m5 193 rfl) rfl
theorem q1193 : (Jvm.Cond.methodLink "Foundrymark$Order" (45 : Nat) ({ cls := "java/lang/Integer", name := "compare", desc := "(II)I" } : Jvm.MethodName)) ∈ lw_all := lw_g (lw_at lw_m5 194 rfl) rfl
theorem q2008 : (Jvm.Cond.castable "Foundrymark$Order" "java/lang/Object") ∈ lw_tbl := lw_at lw_m9 49 rfl
theorem in_X19 : ∀ w ∈ wsX190, w ∈ lw_all := lw_in wsX190 [1007, 1009, 1011, 1013, 1015, 1017, 1019, 1021, 1023, 1025, 1027, 1029, 1031, 1033] (by decide +kernel) (by decide +kernel)

/-! FoundrymarkModel$Order -/
set_option maxRecDepth 100000
def RX20 : String := "FoundrymarkModel$Order"
def TX20 : u_T := fun k => match k with
  | 0 => ("FoundrymarkModel$Order", "number", "I", true)
  | 1 => ("FoundrymarkModel$Order", "part", "I", true)
  | 2 => ("FoundrymarkModel$Order", "quantity", "I", true)
  | 3 => ("FoundrymarkModel$Order", "option", "I", true)
  | 4 => ("FoundrymarkModel$Order", "due", "I", true)
  | 5 => ("FoundrymarkModel$Order", "state", "C", false)
  | 6 => ("FoundrymarkModel$Order", "lots", "Ljava/util/ArrayList;", true)
  | 7 => ("FoundrymarkModel$Order", "pieces", "Ljava/util/ArrayList;", true)
  | 8 => ("FoundrymarkModel$Order", "left", "I", false)
  | 9 => ("FoundrymarkModel$Order", "operation", "I", false)
  | 10 => ("FoundrymarkModel$Order", "machine", "I", false)
  | 11 => ("FoundrymarkModel$Order", "cost", "J", false)
  | 12 => ("FoundrymarkModel$Order", "made", "LFoundrymarkModel$Lot;", false)
  | 13 => ("FoundrymarkModel$Order", "finished", "I", false)
  | 14 => ("FoundrymarkModel$Order", "delivered", "I", false)
  | 15 => ("FoundrymarkModel$Order", "deliveredCost", "J", false)
  | _ => ("FoundrymarkModel$Order", "given", "Ljava/util/ArrayList;", true)
def tyX20 : Nat → FieldType := fun k => match k with
  | 0 => .int
  | 1 => .int
  | 2 => .int
  | 3 => .int
  | 4 => .int
  | 5 => .char
  | 6 => .object "java/util/ArrayList"
  | 7 => .object "java/util/ArrayList"
  | 8 => .int
  | 9 => .int
  | 10 => .int
  | 11 => .long
  | 12 => .object "FoundrymarkModel$Lot"
  | 13 => .int
  | 14 => .int
  | 15 => .long
  | _ => .object "java/util/ArrayList"
abbrev wsX200 : List Cond := u_ws RX20 TX20 17
set_option maxRecDepth 100000 in
theorem nmX20 : ∀ a, a < 17 → ∀ b, b < 17 → a ≠ b → (TX20 a).2.1 ≠ (TX20 b).2.1 := by decide +kernel
set_option maxRecDepth 100000 in
theorem tyX20_ok : ∀ k, k < 17 → parseFieldDescriptor (TX20 k).2.2.1 = some (tyX20 k) := by decide +kernel
abbrev cX20_init : ByteArray := prog_22_method_1_code
def yX20_init : MethodName := ⟨RX20, "<init>", "(IIIII)V"⟩
def dkwX20_init_3 : List UInt8 := [21, 4, 181, 0, 42, 42, 21, 5, 181, 0, 45, 177]
abbrev dktX20_init_3 : List UInt8 := dkwX20_init_3 ++ []
def dkwX20_init_2 : List UInt8 := [89, 183, 0, 15, 181, 0, 30, 42, 27, 181, 0, 33, 42, 28, 181, 0, 36, 42, 29, 181, 0, 39, 42]
abbrev dktX20_init_2 : List UInt8 := dkwX20_init_2 ++ dktX20_init_3
def dkwX20_init_1 : List UInt8 := [187, 0, 13, 89, 183, 0, 15, 181, 0, 20, 42, 2, 181, 0, 23, 42, 2, 181, 0, 27, 42, 187, 0, 13]
abbrev dktX20_init_1 : List UInt8 := dkwX20_init_1 ++ dktX20_init_2
def dkwX20_init_0 : List UInt8 := [42, 183, 0, 1, 42, 16, 45, 181, 0, 7, 42, 187, 0, 13, 89, 183, 0, 15, 181, 0, 16, 42]
abbrev dktX20_init_0 : List UInt8 := dkwX20_init_0 ++ dktX20_init_1
theorem dksX20_init_0 : cX20_init.data.toList.drop 0 = dktX20_init_0 := by decide +kernel
theorem dksX20_init_1 : cX20_init.data.toList.drop 22 = dktX20_init_1 := dk_seg dksX20_init_0 22 rfl rfl
theorem dksX20_init_2 : cX20_init.data.toList.drop 46 = dktX20_init_2 := dk_seg dksX20_init_1 24 rfl rfl
theorem dksX20_init_3 : cX20_init.data.toList.drop 69 = dktX20_init_3 := dk_seg dksX20_init_2 23 rfl rfl
theorem dX20_init_0 : decode cX20_init 0 = .ok (.aload_n 0, 1) := dk_42 (dk_at dksX20_init_0 0 rfl rfl)
theorem dX20_init_1 : decode cX20_init 1 = .ok (.invokespecial 1, 3) := dk_183 0 1 (dk_at dksX20_init_0 1 rfl rfl)
theorem dX20_init_4 : decode cX20_init 4 = .ok (.aload_n 0, 1) := dk_42 (dk_at dksX20_init_0 4 rfl rfl)
theorem dX20_init_5 : decode cX20_init 5 = .ok (.bipush 45, 2) := dk_16 45 (dk_at dksX20_init_0 5 rfl rfl)
theorem dX20_init_7 : decode cX20_init 7 = .ok (.putfield 7, 3) := dk_181 0 7 (dk_at dksX20_init_0 7 rfl rfl)
theorem dX20_init_10 : decode cX20_init 10 = .ok (.aload_n 0, 1) := dk_42 (dk_at dksX20_init_0 10 rfl rfl)
theorem dX20_init_11 : decode cX20_init 11 = .ok (.new 13, 3) := dk_187 0 13 (dk_at dksX20_init_0 11 rfl rfl)
theorem dX20_init_14 : decode cX20_init 14 = .ok (.dup, 1) := dk_89 (dk_at dksX20_init_0 14 rfl rfl)
theorem dX20_init_15 : decode cX20_init 15 = .ok (.invokespecial 15, 3) := dk_183 0 15 (dk_at dksX20_init_0 15 rfl rfl)
theorem dX20_init_18 : decode cX20_init 18 = .ok (.putfield 16, 3) := dk_181 0 16 (dk_at dksX20_init_0 18 rfl rfl)
theorem dX20_init_21 : decode cX20_init 21 = .ok (.aload_n 0, 1) := dk_42 (dk_at dksX20_init_0 21 rfl rfl)
theorem dX20_init_22 : decode cX20_init 22 = .ok (.new 13, 3) := dk_187 0 13 (dk_at dksX20_init_1 0 rfl rfl)
theorem dX20_init_25 : decode cX20_init 25 = .ok (.dup, 1) := dk_89 (dk_at dksX20_init_1 3 rfl rfl)
theorem dX20_init_26 : decode cX20_init 26 = .ok (.invokespecial 15, 3) := dk_183 0 15 (dk_at dksX20_init_1 4 rfl rfl)
theorem dX20_init_29 : decode cX20_init 29 = .ok (.putfield 20, 3) := dk_181 0 20 (dk_at dksX20_init_1 7 rfl rfl)
theorem dX20_init_32 : decode cX20_init 32 = .ok (.aload_n 0, 1) := dk_42 (dk_at dksX20_init_1 10 rfl rfl)
theorem dX20_init_33 : decode cX20_init 33 = .ok (.iconst (-1), 1) := dk_2 (dk_at dksX20_init_1 11 rfl rfl)
theorem dX20_init_34 : decode cX20_init 34 = .ok (.putfield 23, 3) := dk_181 0 23 (dk_at dksX20_init_1 12 rfl rfl)
theorem dX20_init_37 : decode cX20_init 37 = .ok (.aload_n 0, 1) := dk_42 (dk_at dksX20_init_1 15 rfl rfl)
theorem dX20_init_38 : decode cX20_init 38 = .ok (.iconst (-1), 1) := dk_2 (dk_at dksX20_init_1 16 rfl rfl)
theorem dX20_init_39 : decode cX20_init 39 = .ok (.putfield 27, 3) := dk_181 0 27 (dk_at dksX20_init_1 17 rfl rfl)
theorem dX20_init_42 : decode cX20_init 42 = .ok (.aload_n 0, 1) := dk_42 (dk_at dksX20_init_1 20 rfl rfl)
theorem dX20_init_43 : decode cX20_init 43 = .ok (.new 13, 3) := dk_187 0 13 (dk_at dksX20_init_1 21 rfl rfl)
theorem dX20_init_46 : decode cX20_init 46 = .ok (.dup, 1) := dk_89 (dk_at dksX20_init_2 0 rfl rfl)
theorem dX20_init_47 : decode cX20_init 47 = .ok (.invokespecial 15, 3) := dk_183 0 15 (dk_at dksX20_init_2 1 rfl rfl)
theorem dX20_init_50 : decode cX20_init 50 = .ok (.putfield 30, 3) := dk_181 0 30 (dk_at dksX20_init_2 4 rfl rfl)
theorem dX20_init_53 : decode cX20_init 53 = .ok (.aload_n 0, 1) := dk_42 (dk_at dksX20_init_2 7 rfl rfl)
theorem dX20_init_54 : decode cX20_init 54 = .ok (.iload_n 1, 1) := dk_27 (dk_at dksX20_init_2 8 rfl rfl)
theorem dX20_init_55 : decode cX20_init 55 = .ok (.putfield 33, 3) := dk_181 0 33 (dk_at dksX20_init_2 9 rfl rfl)
theorem dX20_init_58 : decode cX20_init 58 = .ok (.aload_n 0, 1) := dk_42 (dk_at dksX20_init_2 12 rfl rfl)
theorem dX20_init_59 : decode cX20_init 59 = .ok (.iload_n 2, 1) := dk_28 (dk_at dksX20_init_2 13 rfl rfl)
theorem dX20_init_60 : decode cX20_init 60 = .ok (.putfield 36, 3) := dk_181 0 36 (dk_at dksX20_init_2 14 rfl rfl)
theorem dX20_init_63 : decode cX20_init 63 = .ok (.aload_n 0, 1) := dk_42 (dk_at dksX20_init_2 17 rfl rfl)
theorem dX20_init_64 : decode cX20_init 64 = .ok (.iload_n 3, 1) := dk_29 (dk_at dksX20_init_2 18 rfl rfl)
theorem dX20_init_65 : decode cX20_init 65 = .ok (.putfield 39, 3) := dk_181 0 39 (dk_at dksX20_init_2 19 rfl rfl)
theorem dX20_init_68 : decode cX20_init 68 = .ok (.aload_n 0, 1) := dk_42 (dk_at dksX20_init_2 22 rfl rfl)
theorem dX20_init_69 : decode cX20_init 69 = .ok (.iload 4, 2) := dk_21 4 (dk_at dksX20_init_3 0 rfl rfl)
theorem dX20_init_71 : decode cX20_init 71 = .ok (.putfield 42, 3) := dk_181 0 42 (dk_at dksX20_init_3 2 rfl rfl)
theorem dX20_init_74 : decode cX20_init 74 = .ok (.aload_n 0, 1) := dk_42 (dk_at dksX20_init_3 5 rfl rfl)
theorem dX20_init_75 : decode cX20_init 75 = .ok (.iload 5, 2) := dk_21 5 (dk_at dksX20_init_3 6 rfl rfl)
theorem dX20_init_77 : decode cX20_init 77 = .ok (.putfield 45, 3) := dk_181 0 45 (dk_at dksX20_init_3 8 rfl rfl)
theorem dX20_init_80 : decode cX20_init 80 = .ok (.return_, 1) := dk_177 (dk_at dksX20_init_3 11 rfl rfl)
abbrev cX20_isReleased : ByteArray := prog_22_method_2_code
def yX20_isReleased : MethodName := ⟨RX20, "isReleased", "()Z"⟩
def dkwX20_isReleased_0 : List UInt8 := [42, 180, 0, 7, 16, 45, 159, 0, 16, 42, 180, 0, 7, 16, 112, 159, 0, 7, 4, 167, 0, 4, 3, 172]
abbrev dktX20_isReleased_0 : List UInt8 := dkwX20_isReleased_0 ++ []
theorem dksX20_isReleased_0 : cX20_isReleased.data.toList.drop 0 = dktX20_isReleased_0 := by decide +kernel
theorem dX20_isReleased_0 : decode cX20_isReleased 0 = .ok (.aload_n 0, 1) := dk_42 (dk_at dksX20_isReleased_0 0 rfl rfl)
theorem dX20_isReleased_1 : decode cX20_isReleased 1 = .ok (.getfield 7, 3) := dk_180 0 7 (dk_at dksX20_isReleased_0 1 rfl rfl)
theorem dX20_isReleased_4 : decode cX20_isReleased 4 = .ok (.bipush 45, 2) := dk_16 45 (dk_at dksX20_isReleased_0 4 rfl rfl)
theorem dX20_isReleased_6 : decode cX20_isReleased 6 = .ok (.if_icmp .eq 16, 3) := dk_159 0 16 (dk_at dksX20_isReleased_0 6 rfl rfl)
theorem dX20_isReleased_9 : decode cX20_isReleased 9 = .ok (.aload_n 0, 1) := dk_42 (dk_at dksX20_isReleased_0 9 rfl rfl)
theorem dX20_isReleased_10 : decode cX20_isReleased 10 = .ok (.getfield 7, 3) := dk_180 0 7 (dk_at dksX20_isReleased_0 10 rfl rfl)
theorem dX20_isReleased_13 : decode cX20_isReleased 13 = .ok (.bipush 112, 2) := dk_16 112 (dk_at dksX20_isReleased_0 13 rfl rfl)
theorem dX20_isReleased_15 : decode cX20_isReleased 15 = .ok (.if_icmp .eq 7, 3) := dk_159 0 7 (dk_at dksX20_isReleased_0 15 rfl rfl)
theorem dX20_isReleased_18 : decode cX20_isReleased 18 = .ok (.iconst 1, 1) := dk_4 (dk_at dksX20_isReleased_0 18 rfl rfl)
theorem dX20_isReleased_19 : decode cX20_isReleased 19 = .ok (.goto 4, 3) := dk_167 0 4 (dk_at dksX20_isReleased_0 19 rfl rfl)
theorem dX20_isReleased_22 : decode cX20_isReleased 22 = .ok (.iconst 0, 1) := dk_3 (dk_at dksX20_isReleased_0 22 rfl rfl)
theorem dX20_isReleased_23 : decode cX20_isReleased 23 = .ok (.ireturn, 1) := dk_172 (dk_at dksX20_isReleased_0 23 rfl rfl)
theorem q83 : (Jvm.Cond.initialized "FoundrymarkModel$Order") ∈ lw_all := lw_g (lw_at lw_m1 44 rfl) rfl
theorem q575 : (Jvm.Cond.selects "FoundrymarkModel$Order" ({ cls := "java/lang/Object", name := "getClass", desc := "()Ljava/lang/Class;" } : Jvm.MethodName) ({ cls := "java/lang/Object", name := "getClass", desc := "()Ljava/lang/Class;" } : Jvm.MethodName)) ∈ lw_all := lw_g (lw_at lw_m3 56 rfl) rfl
theorem q1751 : (Jvm.Cond.instantiable "FoundrymarkModel$Order" (17 : Nat)) ∈ lw_all := lw_g (lw_at lw_m8 32 rfl) rfl
theorem q1753 : (Jvm.Cond.instanceMethod ({ cls := "FoundrymarkModel$Order", name := "<init>", desc := "(IIIII)V" } : Jvm.MethodName)) ∈ lw_all := lw_g (lw_at lw_m8 34 rfl) rfl
theorem q1754 : (Jvm.Cond.code ({ cls := "FoundrymarkModel$Order", name := "<init>", desc := "(IIIII)V" } : Jvm.MethodName) prog_22_method_1_code (6 : Nat) (Option.none : Option Jvm.ClassFile.FieldType)) ∈ lw_all := lw_g (lw_at lw_m8 35 rfl) rfl
theorem q1755 : (Jvm.Cond.methodLink "FoundrymarkModel$Order" (1 : Nat) ({ cls := "java/lang/Object", name := "<init>", desc := "()V" } : Jvm.MethodName)) ∈ lw_all := lw_g (lw_at lw_m8 36 rfl) rfl
theorem q1756 : (Jvm.Cond.classLink "FoundrymarkModel$Order" (13 : Nat) "java/util/ArrayList") ∈ lw_all := lw_g (lw_at lw_m8 37 rfl) rfl
theorem q1757 : (Jvm.Cond.methodLink "FoundrymarkModel$Order" (15 : Nat) ({ cls := "java/util/ArrayList", name := "<init>", desc := "()V" } : Jvm.MethodName)) ∈ lw_all := lw_g (lw_at lw_m8 38 rfl) rfl
theorem q1758 : (Jvm.Cond.fieldLink "FoundrymarkModel$Order" (33 : Nat) "FoundrymarkModel$Order" "number" "I") ∈ lw_all := lw_g (lw_at lw_m8 39 rfl) rfl
theorem q1759 : (Jvm.Cond.fieldLink "FoundrymarkModel$Order" (36 : Nat) "FoundrymarkModel$Order" "part" "I") ∈ lw_all := lw_g (lw_at lw_m8 40 rfl) rfl
theorem q1761 : (Jvm.Cond.fieldLink "FoundrymarkModel$Order" (39 : Nat) "FoundrymarkModel$Order" "quantity" "I") ∈ lw_all := lw_g (lw_at lw_m8 42 rfl) rfl
theorem q1763 : (Jvm.Cond.fieldLink "FoundrymarkModel$Order" (42 : Nat) "FoundrymarkModel$Order" "option" "I") ∈ lw_all := lw_g (lw_at lw_m8 44 rfl) rfl
theorem q1765 : (Jvm.Cond.fieldLink "FoundrymarkModel$Order" (45 : Nat) "FoundrymarkModel$Order" "due" "I") ∈ lw_all := lw_g (lw_at lw_m8 46 rfl) rfl
theorem q1767 : (Jvm.Cond.fieldLink "FoundrymarkModel$Order" (7 : Nat) "FoundrymarkModel$Order" "state" "C") ∈ lw_all := lw_g (lw_at lw_m8 48 rfl) rfl
theorem q1769 : (Jvm.Cond.fieldLink "FoundrymarkModel$Order" (16 : Nat) "FoundrymarkModel$Order" "lots" "Ljava/util/ArrayList;") ∈ lw_all := lw_g (lw_at lw_m8 50 rfl) rfl
theorem q1771 : (Jvm.Cond.fieldLink "FoundrymarkModel$Order" (20 : Nat) "FoundrymarkModel$Order" "pieces" "Ljava/util/ArrayList;") ∈ lw_all := lw_g (lw_at lw_m8 52 rfl) rfl
theorem q1778 : (Jvm.Cond.fieldLink "FoundrymarkModel$Order" (23 : Nat) "FoundrymarkModel$Order" "finished" "I") ∈ lw_all := lw_g (lw_at lw_m8 59 rfl) rfl
theorem q1780 : (Jvm.Cond.fieldLink "FoundrymarkModel$Order" (27 : Nat) "FoundrymarkModel$Order" "delivered" "I") ∈ lw_all := lw_g (lw_at lw_m8 61 rfl) rfl
theorem q1783 : (Jvm.Cond.fieldLink "FoundrymarkModel$Order" (30 : Nat) "FoundrymarkModel$Order" "given" "Ljava/util/ArrayList;") ∈ lw_all := lw_g (lw_at lw_m8 64 rfl) rfl
theorem q1785 : (Jvm.Cond.laysFinal "FoundrymarkModel$Order" "FoundrymarkModel$Order" "number" "I") ∈ lw_all := lw_g (lw_at lw_m8 66 rfl) rfl
theorem q1786 : (Jvm.Cond.soleField "FoundrymarkModel$Order" "number") ∈ lw_all := lw_g (lw_at lw_m8 67 rfl) rfl
theorem q1787 : (Jvm.Cond.laysFinal "FoundrymarkModel$Order" "FoundrymarkModel$Order" "part" "I") ∈ lw_all := lw_g (lw_at lw_m8 68 rfl) rfl
theorem q1788 : (Jvm.Cond.soleField "FoundrymarkModel$Order" "part") ∈ lw_all := lw_g (lw_at lw_m8 69 rfl) rfl
theorem q1789 : (Jvm.Cond.laysFinal "FoundrymarkModel$Order" "FoundrymarkModel$Order" "quantity" "I") ∈ lw_all := lw_g (lw_at lw_m8 70 rfl) rfl
theorem q1790 : (Jvm.Cond.soleField "FoundrymarkModel$Order" "quantity") ∈ lw_all := lw_g (lw_at lw_m8 71 rfl) rfl
theorem q1791 : (Jvm.Cond.laysFinal "FoundrymarkModel$Order" "FoundrymarkModel$Order" "option" "I") ∈ lw_all := lw_g (lw_at lw_m8 72 rfl) rfl
theorem q1792 : (Jvm.Cond.soleField "FoundrymarkModel$Order" "option") ∈ lw_all := lw_g (lw_at lw_m8 73 rfl) rfl
theorem q1793 : (Jvm.Cond.laysFinal "FoundrymarkModel$Order" "FoundrymarkModel$Order" "due" "I") ∈ lw_all := lw_g (lw_at lw_m8 74 rfl) rfl
theorem q1794 : (Jvm.Cond.soleField "FoundrymarkModel$Order" "due") ∈ lw_all := lw_g (lw_at lw_m8 75 rfl) rfl
theorem q1795 : (Jvm.Cond.lays "FoundrymarkModel$Order" "FoundrymarkModel$Order" "state" "C") ∈ lw_all := lw_g (lw_at lw_m8 76 rfl) rfl
theorem q1796 : (Jvm.Cond.soleField "FoundrymarkModel$Order" "state") ∈ lw_all := lw_g (lw_at lw_m8 77 rfl) rfl
theorem q1797 : (Jvm.Cond.laysFinal "FoundrymarkModel$Order" "FoundrymarkModel$Order" "lots" "Ljava/util/ArrayList;") ∈ lw_all := lw_g (lw_at lw_m8 78 rfl) rfl
theorem q1798 : (Jvm.Cond.soleField "FoundrymarkModel$Order" "lots") ∈ lw_all := lw_g (lw_at lw_m8 79 rfl) rfl
theorem q1799 : (Jvm.Cond.laysFinal "FoundrymarkModel$Order" "FoundrymarkModel$Order" "pieces" "Ljava/util/ArrayList;") ∈ lw_all := lw_g (lw_at lw_m8 80 rfl) rfl
theorem q1800 : (Jvm.Cond.soleField "FoundrymarkModel$Order" "pieces") ∈ lw_all := lw_g (lw_at lw_m8 81 rfl) rfl
theorem q1801 : (Jvm.Cond.lays "FoundrymarkModel$Order" "FoundrymarkModel$Order" "left" "I") ∈ lw_all := lw_g (lw_at lw_m8 82 rfl) rfl
theorem q1802 : (Jvm.Cond.soleField "FoundrymarkModel$Order" "left") ∈ lw_all := lw_g (lw_at lw_m8 83 rfl) rfl
theorem q1803 : (Jvm.Cond.lays "FoundrymarkModel$Order" "FoundrymarkModel$Order" "operation" "I") ∈ lw_all := lw_g (lw_at lw_m8 84 rfl) rfl
theorem q1804 : (Jvm.Cond.soleField "FoundrymarkModel$Order" "operation") ∈ lw_all := lw_g (lw_at lw_m8 85 rfl) rfl
theorem q1805 : (Jvm.Cond.lays "FoundrymarkModel$Order" "FoundrymarkModel$Order" "machine" "I") ∈ lw_all := lw_g (lw_at lw_m8 86 rfl) rfl
theorem q1806 : (Jvm.Cond.soleField "FoundrymarkModel$Order" "machine") ∈ lw_all := lw_g (lw_at lw_m8 87 rfl) rfl
theorem q1807 : (Jvm.Cond.lays "FoundrymarkModel$Order" "FoundrymarkModel$Order" "cost" "J") ∈ lw_all := lw_g (lw_at lw_m8 88 rfl) rfl
theorem q1808 : (Jvm.Cond.soleField "FoundrymarkModel$Order" "cost") ∈ lw_all := lw_g (lw_at lw_m8 89 rfl) rfl
theorem q1809 : (Jvm.Cond.lays "FoundrymarkModel$Order" "FoundrymarkModel$Order" "made" "LFoundrymarkModel$Lot;") ∈ lw_all := lw_g (lw_at lw_m8 90 rfl) rfl
theorem q1810 : (Jvm.Cond.soleField "FoundrymarkModel$Order" "made") ∈ lw_all := lw_g (lw_at lw_m8 91 rfl) rfl
theorem q1811 : (Jvm.Cond.lays "FoundrymarkModel$Order" "FoundrymarkModel$Order" "finished" "I") ∈ lw_all := lw_g (lw_at lw_m8 92 rfl) rfl
theorem q1812 : (Jvm.Cond.soleField "FoundrymarkModel$Order" "finished") ∈ lw_all := lw_g (lw_at lw_m8 93 rfl) rfl
theorem q1813 : (Jvm.Cond.lays "FoundrymarkModel$Order" "FoundrymarkModel$Order" "delivered" "I") ∈ lw_all := lw_g (lw_at lw_m8 94 rfl) rfl
theorem q1814 : (Jvm.Cond.soleField "FoundrymarkModel$Order" "delivered") ∈ lw_all := lw_g (lw_at lw_m8 95 rfl) rfl
theorem q1815 : (Jvm.Cond.lays "FoundrymarkModel$Order" "FoundrymarkModel$Order" "deliveredCost" "J") ∈ lw_all := lw_g (lw_at lw_m8 96 rfl) rfl
theorem q1816 : (Jvm.Cond.soleField "FoundrymarkModel$Order" "deliveredCost") ∈ lw_all := lw_g (lw_at lw_m8 97 rfl) rfl
theorem q1817 : (Jvm.Cond.laysFinal "FoundrymarkModel$Order" "FoundrymarkModel$Order" "given" "Ljava/util/ArrayList;") ∈ lw_all := lw_g (lw_at lw_m8 98 rfl) rfl
theorem q1818 : (Jvm.Cond.soleField "FoundrymarkModel$Order" "given") ∈ lw_all := lw_g (lw_at lw_m8 99 rfl) rfl
theorem q1819 : (Jvm.Cond.superclass "FoundrymarkModel$Order" "java/lang/Object") ∈ lw_all := lw_g (lw_at lw_m8 100 rfl) rfl
theorem q1862 : (Jvm.Cond.instanceMethod ({ cls := "FoundrymarkModel$Order", name := "isReleased", desc := "()Z" } : Jvm.MethodName)) ∈ lw_all := lw_g (lw_at lw_m8 143 rfl) rfl
theorem q1863 : (Jvm.Cond.selects "FoundrymarkModel$Order" ({ cls := "FoundrymarkModel$Order", name := "isReleased", desc := "()Z" } : Jvm.MethodName) ({ cls := "FoundrymarkModel$Order", name := "isReleased", desc := "()Z" } : Jvm.MethodName)) ∈ lw_all := lw_g (lw_at lw_m8 144 rfl) rfl
theorem q1864 : (Jvm.Cond.code ({ cls := "FoundrymarkModel$Order", name := "isReleased", desc := "()Z" } : Jvm.MethodName) prog_22_method_2_code (1 : Nat) (Option.some Jvm.ClassFile.FieldType.boolean)) ∈ lw_all := lw_g (lw_at lw_m8 145 rfl) rfl
theorem q2009 : (Jvm.Cond.castable "FoundrymarkModel$Order" "java/lang/Object") ∈ lw_tbl := lw_at lw_m9 50 rfl
theorem in_X20 : ∀ w ∈ wsX200, w ∈ lw_all := lw_in wsX200 [1785, 1787, 1789, 1791, 1793, 1795, 1797, 1799, 1801, 1803, 1805, 1807, 1809, 1811, 1813, 1815, 1817] (by decide +kernel) (by decide +kernel)

/-! Foundrymark$Taken -/
set_option maxRecDepth 100000
def RX21 : String := "Foundrymark$Taken"
def TX21 : u_T := fun k => match k with
  | 0 => ("Foundrymark$Taken", "lot", "LFoundrymark$Lot;", true)
  | 1 => ("Foundrymark$Taken", "pieces", "I", true)
  | _ => ("Foundrymark$Taken", "cost", "J", false)
def tyX21 : Nat → FieldType := fun k => match k with
  | 0 => .object "Foundrymark$Lot"
  | 1 => .int
  | _ => .long
abbrev wsX210 : List Cond := u_ws RX21 TX21 3
theorem nmX21 : ∀ a, a < 3 → ∀ b, b < 3 → a ≠ b → (TX21 a).2.1 ≠ (TX21 b).2.1 := by decide +kernel
theorem tyX21_ok : ∀ k, k < 3 → parseFieldDescriptor (TX21 k).2.2.1 = some (tyX21 k) := by decide +kernel
abbrev cX21_init : ByteArray := prog_17_method_1_code
def yX21_init : MethodName := ⟨RX21, "<init>", "(LFoundrymark$Lot;I)V"⟩
def dkwX21_init_0 : List UInt8 := [42, 183, 0, 1, 42, 43, 181, 0, 7, 42, 28, 181, 0, 13, 177]
abbrev dktX21_init_0 : List UInt8 := dkwX21_init_0 ++ []
theorem dksX21_init_0 : cX21_init.data.toList.drop 0 = dktX21_init_0 := by decide +kernel
theorem dX21_init_0 : decode cX21_init 0 = .ok (.aload_n 0, 1) := dk_42 (dk_at dksX21_init_0 0 rfl rfl)
theorem dX21_init_1 : decode cX21_init 1 = .ok (.invokespecial 1, 3) := dk_183 0 1 (dk_at dksX21_init_0 1 rfl rfl)
theorem dX21_init_4 : decode cX21_init 4 = .ok (.aload_n 0, 1) := dk_42 (dk_at dksX21_init_0 4 rfl rfl)
theorem dX21_init_5 : decode cX21_init 5 = .ok (.aload_n 1, 1) := dk_43 (dk_at dksX21_init_0 5 rfl rfl)
theorem dX21_init_6 : decode cX21_init 6 = .ok (.putfield 7, 3) := dk_181 0 7 (dk_at dksX21_init_0 6 rfl rfl)
theorem dX21_init_9 : decode cX21_init 9 = .ok (.aload_n 0, 1) := dk_42 (dk_at dksX21_init_0 9 rfl rfl)
theorem dX21_init_10 : decode cX21_init 10 = .ok (.iload_n 2, 1) := dk_28 (dk_at dksX21_init_0 10 rfl rfl)
theorem dX21_init_11 : decode cX21_init 11 = .ok (.putfield 13, 3) := dk_181 0 13 (dk_at dksX21_init_0 11 rfl rfl)
theorem dX21_init_14 : decode cX21_init 14 = .ok (.return_, 1) := dk_177 (dk_at dksX21_init_0 14 rfl rfl)
theorem q84 : (Jvm.Cond.initialized "Foundrymark$Taken") ∈ lw_all := lw_g (lw_at lw_m1 45 rfl) rfl
theorem q571 : (Jvm.Cond.selects "Foundrymark$Taken" ({ cls := "java/lang/Object", name := "getClass", desc := "()Ljava/lang/Class;" } : Jvm.MethodName) ({ cls := "java/lang/Object", name := "getClass", desc := "()Ljava/lang/Class;" } : Jvm.MethodName)) ∈ lw_all := lw_g (lw_at lw_m3 52 rfl) rfl
theorem q1061 : (Jvm.Cond.instantiable "Foundrymark$Taken" (3 : Nat)) ∈ lw_all := lw_g (lw_at lw_m5 62 rfl) rfl
theorem q1063 : (Jvm.Cond.instanceMethod ({ cls := "Foundrymark$Taken", name := "<init>", desc := "(LFoundrymark$Lot;I)V" } : Jvm.MethodName)) ∈ lw_all := lw_g (lw_at lw_m5 64 rfl) rfl
theorem q1064 : (Jvm.Cond.code ({ cls := "Foundrymark$Taken", name := "<init>", desc := "(LFoundrymark$Lot;I)V" } : Jvm.MethodName) prog_17_method_1_code (3 : Nat) (Option.none : Option Jvm.ClassFile.FieldType)) ∈ lw_all := lw_g (lw_at lw_m5 65 rfl) rfl
theorem q1065 : (Jvm.Cond.methodLink "Foundrymark$Taken" (1 : Nat) ({ cls := "java/lang/Object", name := "<init>", desc := "()V" } : Jvm.MethodName)) ∈ lw_all := lw_g (lw_at lw_m5 66 rfl) rfl
theorem q1066 : (Jvm.Cond.fieldLink "Foundrymark$Taken" (7 : Nat) "Foundrymark$Taken" "lot" "LFoundrymark$Lot;") ∈ lw_all := lw_g (lw_at lw_m5 67 rfl) rfl
theorem q1069 : (Jvm.Cond.fieldLink "Foundrymark$Taken" (13 : Nat) "Foundrymark$Taken" "pieces" "I") ∈ lw_all := lw_g (lw_at lw_m5 70 rfl) rfl
theorem q1074 : (Jvm.Cond.laysFinal "Foundrymark$Taken" "Foundrymark$Taken" "lot" "LFoundrymark$Lot;") ∈ lw_all := lw_g (lw_at lw_m5 75 rfl) rfl
theorem q1075 : (Jvm.Cond.soleField "Foundrymark$Taken" "lot") ∈ lw_all := lw_g (lw_at lw_m5 76 rfl) rfl
theorem q1076 : (Jvm.Cond.laysFinal "Foundrymark$Taken" "Foundrymark$Taken" "pieces" "I") ∈ lw_all := lw_g (lw_at lw_m5 77 rfl) rfl
theorem q1077 : (Jvm.Cond.soleField "Foundrymark$Taken" "pieces") ∈ lw_all := lw_g (lw_at lw_m5 78 rfl) rfl
theorem q1078 : (Jvm.Cond.lays "Foundrymark$Taken" "Foundrymark$Taken" "cost" "J") ∈ lw_all := lw_g (lw_at lw_m5 79 rfl) rfl
theorem q1079 : (Jvm.Cond.soleField "Foundrymark$Taken" "cost") ∈ lw_all := lw_g (lw_at lw_m5 80 rfl) rfl
theorem q1080 : (Jvm.Cond.superclass "Foundrymark$Taken" "java/lang/Object") ∈ lw_all := lw_g (lw_at lw_m5 81 rfl) rfl
theorem q2010 : (Jvm.Cond.castable "Foundrymark$Taken" "java/lang/Object") ∈ lw_tbl := lw_at lw_m9 51 rfl
theorem in_X21 : ∀ w ∈ wsX210, w ∈ lw_all := lw_in wsX210 [1074, 1076, 1078] (by decide +kernel) (by decide +kernel)

/-! Foundrymark$Lack -/
set_option maxRecDepth 100000
def RX22 : String := "Foundrymark$Lack"
def TX22 : u_T := fun k => match k with
  | 0 => ("java/lang/Throwable", "cause", "Ljava/lang/Throwable;", false)
  | 1 => ("java/lang/Throwable", "stackTrace", "[Ljava/lang/StackTraceElement;", false)
  | 2 => ("java/lang/Throwable", "suppressedExceptions", "Ljava/util/List;", false)
  | 3 => ("java/lang/Throwable", "detailMessage", "Ljava/lang/String;", false)
  | 4 => ("java/lang/Throwable", "backtrace", "Ljava/lang/Object;", false)
  | _ => ("java/lang/Throwable", "depth", "I", false)
def tyX22 : Nat → FieldType := fun k => match k with
  | 0 => .object "java/lang/Throwable"
  | 1 => .array (.object "java/lang/StackTraceElement")
  | 2 => .object "java/util/List"
  | 3 => .object "java/lang/String"
  | 4 => .object "java/lang/Object"
  | _ => .int
abbrev wsX220 : List Cond := u_ws RX22 TX22 6
theorem nmX22 : ∀ a, a < 6 → ∀ b, b < 6 → a ≠ b → (TX22 a).2.1 ≠ (TX22 b).2.1 := by decide +kernel
theorem tyX22_ok : ∀ k, k < 6 → parseFieldDescriptor (TX22 k).2.2.1 = some (tyX22 k) := by decide +kernel
abbrev cX22_init : ByteArray := prog_4_method_1_code
def yX22_init : MethodName := ⟨RX22, "<init>", "(Ljava/lang/RuntimeException;)V"⟩
def dkwX22_init_0 : List UInt8 := [42, 1, 43, 183, 0, 1, 177]
abbrev dktX22_init_0 : List UInt8 := dkwX22_init_0 ++ []
theorem dksX22_init_0 : cX22_init.data.toList.drop 0 = dktX22_init_0 := by decide +kernel
theorem dX22_init_0 : decode cX22_init 0 = .ok (.aload_n 0, 1) := dk_42 (dk_at dksX22_init_0 0 rfl rfl)
theorem dX22_init_1 : decode cX22_init 1 = .ok (.aconst_null, 1) := dk_1 (dk_at dksX22_init_0 1 rfl rfl)
theorem dX22_init_2 : decode cX22_init 2 = .ok (.aload_n 1, 1) := dk_43 (dk_at dksX22_init_0 2 rfl rfl)
theorem dX22_init_3 : decode cX22_init 3 = .ok (.invokespecial 1, 3) := dk_183 0 1 (dk_at dksX22_init_0 3 rfl rfl)
theorem dX22_init_6 : decode cX22_init 6 = .ok (.return_, 1) := dk_177 (dk_at dksX22_init_0 6 rfl rfl)
theorem q85 : (Jvm.Cond.initialized "Foundrymark$Lack") ∈ lw_all := lw_g (lw_at lw_m1 46 rfl) rfl
theorem q268 : (Jvm.Cond.selects "Foundrymark$Lack" ({ cls := "java/lang/Throwable", name := "fillInStackTrace", desc := "()Ljava/lang/Throwable;" } : Jvm.MethodName) ({ cls := "java/lang/Throwable", name := "fillInStackTrace", desc := "()Ljava/lang/Throwable;" } : Jvm.MethodName)) ∈ lw_all := lw_g (lw_at lw_m1 229 rfl) rfl
theorem q560 : (Jvm.Cond.selects "Foundrymark$Lack" ({ cls := "java/lang/Object", name := "getClass", desc := "()Ljava/lang/Class;" } : Jvm.MethodName) ({ cls := "java/lang/Object", name := "getClass", desc := "()Ljava/lang/Class;" } : Jvm.MethodName)) ∈ lw_all := lw_g (lw_at lw_m3 41 rfl) rfl
theorem q1081 : (Jvm.Cond.instantiable "Foundrymark$Lack" (6 : Nat)) ∈ lw_all := lw_g (lw_at lw_m5 82 rfl) rfl
theorem q1082 : (Jvm.Cond.castable "Foundrymark$Lack" "Foundrymark$Lack") ∈ lw_tbl := lw_at lw_m5 83 rfl
theorem q1083 : (Jvm.Cond.selects "Foundrymark$Lack" ({ cls := "java/lang/Throwable", name := "fillInStackTrace", desc := "(I)Ljava/lang/Throwable;" } : Jvm.MethodName) ({ cls := "java/lang/Throwable", name := "fillInStackTrace", desc := "(I)Ljava/lang/Throwable;" } : Jvm.MethodName)) ∈ lw_all := lw_g (lw_at lw_m5 84 rfl) rfl
theorem q1084 : (Jvm.Cond.lays "Foundrymark$Lack" "java/lang/Throwable" "cause" "Ljava/lang/Throwable;") ∈ lw_all := lw_g (lw_at lw_m5 85 rfl) rfl
theorem q1085 : (Jvm.Cond.lays "Foundrymark$Lack" "java/lang/Throwable" "stackTrace" "[Ljava/lang/StackTraceElement;") ∈ lw_all := lw_g (lw_at lw_m5 86 rfl) rfl
theorem q1086 : (Jvm.Cond.lays "Foundrymark$Lack" "java/lang/Throwable" "suppressedExceptions" "Ljava/util/List;") ∈ lw_all := lw_g (lw_at lw_m5 87 rfl) rfl
theorem q1087 : (Jvm.Cond.lays "Foundrymark$Lack" "java/lang/Throwable" "detailMessage" "Ljava/lang/String;") ∈ lw_all := lw_g (lw_at lw_m5 88 rfl) rfl
theorem q1088 : (Jvm.Cond.lays "Foundrymark$Lack" "java/lang/Throwable" "backtrace" "Ljava/lang/Object;") ∈ lw_all := lw_g (lw_at lw_m5 89 rfl) rfl
theorem q1090 : (Jvm.Cond.instanceMethod ({ cls := "Foundrymark$Lack", name := "<init>", desc := "(Ljava/lang/RuntimeException;)V" } : Jvm.MethodName)) ∈ lw_all := lw_g (lw_at lw_m5 91 rfl) rfl
theorem q1091 : (Jvm.Cond.code ({ cls := "Foundrymark$Lack", name := "<init>", desc := "(Ljava/lang/RuntimeException;)V" } : Jvm.MethodName) prog_4_method_1_code (2 : Nat) (Option.none : Option Jvm.ClassFile.FieldType)) ∈ lw_all := lw_g (lw_at lw_m5 92 rfl) rfl
theorem q1092 : (Jvm.Cond.methodLink "Foundrymark$Lack" (1 : Nat) ({ cls := "java/lang/Exception", name := "<init>", desc := "(Ljava/lang/String;Ljava/lang/Throwable;)V" } : Jvm.MethodName)) ∈ lw_all := lw_g (lw_at lw_m5 93 rfl) rfl
theorem q1098 : (Jvm.Cond.lays "Foundrymark$Lack" "java/lang/Throwable" "depth" "I") ∈ lw_all := lw_g (lw_at lw_m5 99 rfl) rfl
theorem q1099 : (Jvm.Cond.superclass "Foundrymark$Lack" "java/lang/Exception") ∈ lw_all := lw_g (lw_at lw_m5 100 rfl) rfl
theorem q2011 : (Jvm.Cond.castable "Foundrymark$Lack" "java/lang/Object") ∈ lw_tbl := lw_at lw_m9 52 rfl
theorem in_X22 : ∀ w ∈ wsX220, w ∈ lw_all := lw_in wsX220 [1084, 1085, 1086, 1087, 1088, 1098] (by decide +kernel) (by decide +kernel)
