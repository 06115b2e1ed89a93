/-! java/util/AbstractCollection -/
set_option maxRecDepth 100000
def RJ0 : String := "java/util/AbstractCollection"
abbrev cJ0_init : ByteArray := prog_47_method_1_code
def yJ0_init : MethodName := ⟨RJ0, "<init>", "()V"⟩
theorem dJ0_init_0 : decode cJ0_init 0 = .ok (.aload_n 0, 1) := by decide +kernel
theorem dJ0_init_1 : decode cJ0_init 1 = .ok (.invokespecial 1, 3) := by decide +kernel
theorem dJ0_init_4 : decode cJ0_init 4 = .ok (.return_, 1) := by decide +kernel
abbrev cJ0_isEmpty : ByteArray := prog_47_method_4_code
def yJ0_isEmpty : MethodName := ⟨RJ0, "isEmpty", "()Z"⟩
def dkwJ0_isEmpty_0 : List UInt8 := [42, 182, 0, 7, 154, 0, 7, 4, 167, 0, 4, 3, 172]
abbrev dktJ0_isEmpty_0 : List UInt8 := dkwJ0_isEmpty_0 ++ []
theorem dksJ0_isEmpty_0 : cJ0_isEmpty.data.toList.drop 0 = dktJ0_isEmpty_0 := by decide +kernel
theorem dJ0_isEmpty_0 : decode cJ0_isEmpty 0 = .ok (.aload_n 0, 1) := dk_42 (dk_at dksJ0_isEmpty_0 0 rfl rfl)
theorem dJ0_isEmpty_1 : decode cJ0_isEmpty 1 = .ok (.invokevirtual 7, 3) := dk_182 0 7 (dk_at dksJ0_isEmpty_0 1 rfl rfl)
theorem dJ0_isEmpty_4 : decode cJ0_isEmpty 4 = .ok (.ifCond .ne 7, 3) := dk_154 0 7 (dk_at dksJ0_isEmpty_0 4 rfl rfl)
theorem dJ0_isEmpty_7 : decode cJ0_isEmpty 7 = .ok (.iconst 1, 1) := dk_4 (dk_at dksJ0_isEmpty_0 7 rfl rfl)
theorem dJ0_isEmpty_8 : decode cJ0_isEmpty 8 = .ok (.goto 4, 3) := dk_167 0 4 (dk_at dksJ0_isEmpty_0 8 rfl rfl)
theorem dJ0_isEmpty_11 : decode cJ0_isEmpty 11 = .ok (.iconst 0, 1) := dk_3 (dk_at dksJ0_isEmpty_0 11 rfl rfl)
theorem dJ0_isEmpty_12 : decode cJ0_isEmpty 12 = .ok (.ireturn, 1) := dk_172 (dk_at dksJ0_isEmpty_0 12 rfl rfl)
theorem q41 : (Jvm.Cond.initialized "java/util/AbstractCollection") ∈ lw_all := lw_g (lw_at lw_m1 2 rfl) rfl
theorem q107 : (Jvm.Cond.instanceMethod ({ cls := "java/util/AbstractCollection", name := "<init>", desc := "()V" } : Jvm.MethodName)) ∈ lw_all := lw_g (lw_at lw_m1 68 rfl) rfl
theorem q108 : (Jvm.Cond.code ({ cls := "java/util/AbstractCollection", name := "<init>", desc := "()V" } : Jvm.MethodName) prog_47_method_1_code (1 : Nat) (Option.none : Option Jvm.ClassFile.FieldType)) ∈ lw_all := lw_g (lw_at lw_m1 69 rfl) rfl
theorem q109 : (Jvm.Cond.methodLink "java/util/AbstractCollection" (1 : Nat) ({ cls := "java/lang/Object", name := "<init>", desc := "()V" } : Jvm.MethodName)) ∈ lw_all := lw_g (lw_at lw_m1 70 rfl) rfl
theorem q1265 : (Jvm.Cond.declares ({ cls := "java/util/AbstractCollection", name := "isEmpty", desc := "()Z" } : Jvm.MethodName)) ∈ lw_tbl := lw_at lw_m6 26 rfl
theorem q1267 : (Jvm.Cond.instanceMethod ({ cls := "java/util/AbstractCollection", name := "isEmpty", desc := "()Z" } : Jvm.MethodName)) ∈ lw_all := lw_g (lw_at lw_m6 28 rfl) rfl
theorem q1268 : (Jvm.Cond.code ({ cls := "java/util/AbstractCollection", name := "isEmpty", desc := "()Z" } : Jvm.MethodName) prog_47_method_4_code (1 : Nat) (Option.some Jvm.ClassFile.FieldType.boolean)) ∈ lw_all := lw_g (lw_at lw_m6 29 rfl) rfl
theorem q1269 : (Jvm.Cond.methodLink "java/util/AbstractCollection" (7 : Nat) ({ cls := "java/util/AbstractCollection", name := "size", desc := "()I" } : Jvm.MethodName)) ∈ lw_all := lw_g (lw_at lw_m6 30 rfl) rfl
theorem q1270 : (Jvm.Cond.declares ({ cls := "java/util/AbstractCollection", name := "size", desc := "()I" } : Jvm.MethodName)) ∈ lw_tbl := lw_at lw_m6 31 rfl
theorem q1271 : (Jvm.Cond.sameMethod "java/util/AbstractCollection" "java/util/AbstractCollection" "size" "()I") ∈ lw_all := lw_g (lw_at lw_m6 32 rfl) rfl

/-! java/util/AbstractList -/
set_option maxRecDepth 100000
def RJ1 : String := "java/util/AbstractList"
abbrev cJ1_init : ByteArray := prog_48_method_1_code
def yJ1_init : MethodName := ⟨RJ1, "<init>", "()V"⟩
def dkwJ1_init_0 : List UInt8 := [42, 183, 0, 1, 42, 3, 181, 0, 7, 177]
abbrev dktJ1_init_0 : List UInt8 := dkwJ1_init_0 ++ []
theorem dksJ1_init_0 : cJ1_init.data.toList.drop 0 = dktJ1_init_0 := by decide +kernel
theorem dJ1_init_0 : decode cJ1_init 0 = .ok (.aload_n 0, 1) := dk_42 (dk_at dksJ1_init_0 0 rfl rfl)
theorem dJ1_init_1 : decode cJ1_init 1 = .ok (.invokespecial 1, 3) := dk_183 0 1 (dk_at dksJ1_init_0 1 rfl rfl)
theorem dJ1_init_4 : decode cJ1_init 4 = .ok (.aload_n 0, 1) := dk_42 (dk_at dksJ1_init_0 4 rfl rfl)
theorem dJ1_init_5 : decode cJ1_init 5 = .ok (.iconst 0, 1) := dk_3 (dk_at dksJ1_init_0 5 rfl rfl)
theorem dJ1_init_6 : decode cJ1_init 6 = .ok (.putfield 7, 3) := dk_181 0 7 (dk_at dksJ1_init_0 6 rfl rfl)
theorem dJ1_init_9 : decode cJ1_init 9 = .ok (.return_, 1) := dk_177 (dk_at dksJ1_init_0 9 rfl rfl)
theorem q42 : (Jvm.Cond.initialized "java/util/AbstractList") ∈ lw_all := lw_g (lw_at lw_m1 3 rfl) rfl
theorem q104 : (Jvm.Cond.instanceMethod ({ cls := "java/util/AbstractList", name := "<init>", desc := "()V" } : Jvm.MethodName)) ∈ lw_all := lw_g (lw_at lw_m1 65 rfl) rfl
theorem q105 : (Jvm.Cond.code ({ cls := "java/util/AbstractList", name := "<init>", desc := "()V" } : Jvm.MethodName) prog_48_method_1_code (1 : Nat) (Option.none : Option Jvm.ClassFile.FieldType)) ∈ lw_all := lw_g (lw_at lw_m1 66 rfl) rfl
theorem q106 : (Jvm.Cond.methodLink "java/util/AbstractList" (1 : Nat) ({ cls := "java/util/AbstractCollection", name := "<init>", desc := "()V" } : Jvm.MethodName)) ∈ lw_all := lw_g (lw_at lw_m1 67 rfl) rfl
theorem q116 : (Jvm.Cond.fieldLink "java/util/AbstractList" (7 : Nat) "java/util/AbstractList" "modCount" "I") ∈ lw_all := lw_g (lw_at lw_m1 77 rfl) rfl
theorem q125 : (Jvm.Cond.soleField "java/util/AbstractList" "modCount") ∈ lw_all := lw_g (lw_at lw_m1 86 rfl) rfl

/-! java/util/ArrayList -/
set_option maxRecDepth 100000
def RJ2 : String := "java/util/ArrayList"
def TJ2 : u_T := fun k => match k with
  | 0 => ("java/util/AbstractList", "modCount", "I", false)
  | 1 => ("java/util/ArrayList", "elementData", "[Ljava/lang/Object;", false)
  | _ => ("java/util/ArrayList", "size", "I", false)
def tyJ2 : Nat → FieldType := fun k => match k with
  | 0 => .int
  | 1 => .array (.object "java/lang/Object")
  | _ => .int
abbrev wsJ20 : List Cond := u_ws RJ2 TJ2 3
theorem nmJ2 : ∀ a, a < 3 → ∀ b, b < 3 → a ≠ b → (TJ2 a).2.1 ≠ (TJ2 b).2.1 := by decide +kernel
theorem tyJ2_ok : ∀ k, k < 3 → parseFieldDescriptor (TJ2 k).2.2.1 = some (tyJ2 k) := by decide +kernel
abbrev cJ2_init : ByteArray := prog_50_method_2_code
def yJ2_init : MethodName := ⟨RJ2, "<init>", "()V"⟩
def dkwJ2_init_0 : List UInt8 := [42, 183, 0, 1, 42, 178, 0, 39, 181, 0, 9, 177]
abbrev dktJ2_init_0 : List UInt8 := dkwJ2_init_0 ++ []
theorem dksJ2_init_0 : cJ2_init.data.toList.drop 0 = dktJ2_init_0 := by decide +kernel
theorem dJ2_init_0 : decode cJ2_init 0 = .ok (.aload_n 0, 1) := dk_42 (dk_at dksJ2_init_0 0 rfl rfl)
theorem dJ2_init_1 : decode cJ2_init 1 = .ok (.invokespecial 1, 3) := dk_183 0 1 (dk_at dksJ2_init_0 1 rfl rfl)
theorem dJ2_init_4 : decode cJ2_init 4 = .ok (.aload_n 0, 1) := dk_42 (dk_at dksJ2_init_0 4 rfl rfl)
theorem dJ2_init_5 : decode cJ2_init 5 = .ok (.getstatic 39, 3) := dk_178 0 39 (dk_at dksJ2_init_0 5 rfl rfl)
theorem dJ2_init_8 : decode cJ2_init 8 = .ok (.putfield 9, 3) := dk_181 0 9 (dk_at dksJ2_init_0 8 rfl rfl)
theorem dJ2_init_11 : decode cJ2_init 11 = .ok (.return_, 1) := dk_177 (dk_at dksJ2_init_0 11 rfl rfl)
abbrev cJ2_size : ByteArray := prog_50_method_8_code
def yJ2_size : MethodName := ⟨RJ2, "size", "()I"⟩
theorem dJ2_size_0 : decode cJ2_size 0 = .ok (.aload_n 0, 1) := by decide +kernel
theorem dJ2_size_1 : decode cJ2_size 1 = .ok (.getfield 48, 3) := by decide +kernel
theorem dJ2_size_4 : decode cJ2_size 4 = .ok (.ireturn, 1) := by decide +kernel
abbrev cJ2_iterator : ByteArray := prog_50_method_55_code
def yJ2_iterator : MethodName := ⟨RJ2, "iterator", "()Ljava/util/Iterator;"⟩
def dkwJ2_iterator_0 : List UInt8 := [187, 1, 11, 89, 42, 183, 1, 13, 176]
abbrev dktJ2_iterator_0 : List UInt8 := dkwJ2_iterator_0 ++ []
theorem dksJ2_iterator_0 : cJ2_iterator.data.toList.drop 0 = dktJ2_iterator_0 := by decide +kernel
theorem dJ2_iterator_0 : decode cJ2_iterator 0 = .ok (.new 267, 3) := dk_187 1 11 (dk_at dksJ2_iterator_0 0 rfl rfl)
theorem dJ2_iterator_3 : decode cJ2_iterator 3 = .ok (.dup, 1) := dk_89 (dk_at dksJ2_iterator_0 3 rfl rfl)
theorem dJ2_iterator_4 : decode cJ2_iterator 4 = .ok (.aload_n 0, 1) := dk_42 (dk_at dksJ2_iterator_0 4 rfl rfl)
theorem dJ2_iterator_5 : decode cJ2_iterator 5 = .ok (.invokespecial 269, 3) := dk_183 1 13 (dk_at dksJ2_iterator_0 5 rfl rfl)
theorem dJ2_iterator_8 : decode cJ2_iterator 8 = .ok (.areturn, 1) := dk_176 (dk_at dksJ2_iterator_0 8 rfl rfl)
abbrev cJ2_get : ByteArray := prog_50_method_20_code
def yJ2_get : MethodName := ⟨RJ2, "get", "(I)Ljava/lang/Object;"⟩
def dkwJ2_get_0 : List UInt8 := [27, 42, 180, 0, 48, 184, 0, 118, 87, 42, 27, 182, 0, 123, 176]
abbrev dktJ2_get_0 : List UInt8 := dkwJ2_get_0 ++ []
theorem dksJ2_get_0 : cJ2_get.data.toList.drop 0 = dktJ2_get_0 := by decide +kernel
theorem dJ2_get_0 : decode cJ2_get 0 = .ok (.iload_n 1, 1) := dk_27 (dk_at dksJ2_get_0 0 rfl rfl)
theorem dJ2_get_1 : decode cJ2_get 1 = .ok (.aload_n 0, 1) := dk_42 (dk_at dksJ2_get_0 1 rfl rfl)
theorem dJ2_get_2 : decode cJ2_get 2 = .ok (.getfield 48, 3) := dk_180 0 48 (dk_at dksJ2_get_0 2 rfl rfl)
theorem dJ2_get_5 : decode cJ2_get 5 = .ok (.invokestatic 118, 3) := dk_184 0 118 (dk_at dksJ2_get_0 5 rfl rfl)
theorem dJ2_get_8 : decode cJ2_get 8 = .ok (.pop, 1) := dk_87 (dk_at dksJ2_get_0 8 rfl rfl)
theorem dJ2_get_9 : decode cJ2_get 9 = .ok (.aload_n 0, 1) := dk_42 (dk_at dksJ2_get_0 9 rfl rfl)
theorem dJ2_get_10 : decode cJ2_get 10 = .ok (.iload_n 1, 1) := dk_27 (dk_at dksJ2_get_0 10 rfl rfl)
theorem dJ2_get_11 : decode cJ2_get 11 = .ok (.invokevirtual 123, 3) := dk_182 0 123 (dk_at dksJ2_get_0 11 rfl rfl)
theorem dJ2_get_14 : decode cJ2_get 14 = .ok (.areturn, 1) := dk_176 (dk_at dksJ2_get_0 14 rfl rfl)
abbrev cJ2_elementData : ByteArray := prog_50_method_18_code
def yJ2_elementData : MethodName := ⟨RJ2, "elementData", "(I)Ljava/lang/Object;"⟩
def dkwJ2_elementData_0 : List UInt8 := [42, 180, 0, 9, 27, 50, 176]
abbrev dktJ2_elementData_0 : List UInt8 := dkwJ2_elementData_0 ++ []
theorem dksJ2_elementData_0 : cJ2_elementData.data.toList.drop 0 = dktJ2_elementData_0 := by decide +kernel
theorem dJ2_elementData_0 : decode cJ2_elementData 0 = .ok (.aload_n 0, 1) := dk_42 (dk_at dksJ2_elementData_0 0 rfl rfl)
theorem dJ2_elementData_1 : decode cJ2_elementData 1 = .ok (.getfield 9, 3) := dk_180 0 9 (dk_at dksJ2_elementData_0 1 rfl rfl)
theorem dJ2_elementData_4 : decode cJ2_elementData 4 = .ok (.iload_n 1, 1) := dk_27 (dk_at dksJ2_elementData_0 4 rfl rfl)
theorem dJ2_elementData_5 : decode cJ2_elementData 5 = .ok (.aaload, 1) := dk_50 (dk_at dksJ2_elementData_0 5 rfl rfl)
theorem dJ2_elementData_6 : decode cJ2_elementData 6 = .ok (.areturn, 1) := dk_176 (dk_at dksJ2_elementData_0 6 rfl rfl)
abbrev cJ2_add : ByteArray := prog_50_method_25_code
def yJ2_add : MethodName := ⟨RJ2, "add", "(Ljava/lang/Object;)Z"⟩
def dkwJ2_add_1 : List UInt8 := [172]
abbrev dktJ2_add_1 : List UInt8 := dkwJ2_add_1 ++ []
def dkwJ2_add_0 : List UInt8 := [42, 89, 180, 0, 63, 4, 96, 181, 0, 63, 42, 43, 42, 180, 0, 9, 42, 180, 0, 48, 182, 0, 131, 4]
abbrev dktJ2_add_0 : List UInt8 := dkwJ2_add_0 ++ dktJ2_add_1
theorem dksJ2_add_0 : cJ2_add.data.toList.drop 0 = dktJ2_add_0 := by decide +kernel
theorem dksJ2_add_1 : cJ2_add.data.toList.drop 24 = dktJ2_add_1 := dk_seg dksJ2_add_0 24 rfl rfl
theorem dJ2_add_0 : decode cJ2_add 0 = .ok (.aload_n 0, 1) := dk_42 (dk_at dksJ2_add_0 0 rfl rfl)
theorem dJ2_add_1 : decode cJ2_add 1 = .ok (.dup, 1) := dk_89 (dk_at dksJ2_add_0 1 rfl rfl)
theorem dJ2_add_2 : decode cJ2_add 2 = .ok (.getfield 63, 3) := dk_180 0 63 (dk_at dksJ2_add_0 2 rfl rfl)
theorem dJ2_add_5 : decode cJ2_add 5 = .ok (.iconst 1, 1) := dk_4 (dk_at dksJ2_add_0 5 rfl rfl)
theorem dJ2_add_6 : decode cJ2_add 6 = .ok (.iadd, 1) := dk_96 (dk_at dksJ2_add_0 6 rfl rfl)
theorem dJ2_add_7 : decode cJ2_add 7 = .ok (.putfield 63, 3) := dk_181 0 63 (dk_at dksJ2_add_0 7 rfl rfl)
theorem dJ2_add_10 : decode cJ2_add 10 = .ok (.aload_n 0, 1) := dk_42 (dk_at dksJ2_add_0 10 rfl rfl)
theorem dJ2_add_11 : decode cJ2_add 11 = .ok (.aload_n 1, 1) := dk_43 (dk_at dksJ2_add_0 11 rfl rfl)
theorem dJ2_add_12 : decode cJ2_add 12 = .ok (.aload_n 0, 1) := dk_42 (dk_at dksJ2_add_0 12 rfl rfl)
theorem dJ2_add_13 : decode cJ2_add 13 = .ok (.getfield 9, 3) := dk_180 0 9 (dk_at dksJ2_add_0 13 rfl rfl)
theorem dJ2_add_16 : decode cJ2_add 16 = .ok (.aload_n 0, 1) := dk_42 (dk_at dksJ2_add_0 16 rfl rfl)
theorem dJ2_add_17 : decode cJ2_add 17 = .ok (.getfield 48, 3) := dk_180 0 48 (dk_at dksJ2_add_0 17 rfl rfl)
theorem dJ2_add_20 : decode cJ2_add 20 = .ok (.invokevirtual 131, 3) := dk_182 0 131 (dk_at dksJ2_add_0 20 rfl rfl)
theorem dJ2_add_23 : decode cJ2_add 23 = .ok (.iconst 1, 1) := dk_4 (dk_at dksJ2_add_0 23 rfl rfl)
theorem dJ2_add_24 : decode cJ2_add 24 = .ok (.ireturn, 1) := dk_172 (dk_at dksJ2_add_1 0 rfl rfl)
abbrev cJ2_add_2 : ByteArray := prog_50_method_24_code
def yJ2_add_2 : MethodName := ⟨RJ2, "add", "(Ljava/lang/Object;[Ljava/lang/Object;I)V"⟩
def dkwJ2_add_2_0 : List UInt8 := [29, 44, 190, 160, 0, 8, 42, 182, 0, 129, 77, 44, 29, 43, 83, 42, 29, 4, 96, 181, 0, 48, 177]
abbrev dktJ2_add_2_0 : List UInt8 := dkwJ2_add_2_0 ++ []
theorem dksJ2_add_2_0 : cJ2_add_2.data.toList.drop 0 = dktJ2_add_2_0 := by decide +kernel
theorem dJ2_add_2_0 : decode cJ2_add_2 0 = .ok (.iload_n 3, 1) := dk_29 (dk_at dksJ2_add_2_0 0 rfl rfl)
theorem dJ2_add_2_1 : decode cJ2_add_2 1 = .ok (.aload_n 2, 1) := dk_44 (dk_at dksJ2_add_2_0 1 rfl rfl)
theorem dJ2_add_2_2 : decode cJ2_add_2 2 = .ok (.arraylength, 1) := dk_190 (dk_at dksJ2_add_2_0 2 rfl rfl)
theorem dJ2_add_2_3 : decode cJ2_add_2 3 = .ok (.if_icmp .ne 8, 3) := dk_160 0 8 (dk_at dksJ2_add_2_0 3 rfl rfl)
theorem dJ2_add_2_6 : decode cJ2_add_2 6 = .ok (.aload_n 0, 1) := dk_42 (dk_at dksJ2_add_2_0 6 rfl rfl)
theorem dJ2_add_2_7 : decode cJ2_add_2 7 = .ok (.invokevirtual 129, 3) := dk_182 0 129 (dk_at dksJ2_add_2_0 7 rfl rfl)
theorem dJ2_add_2_10 : decode cJ2_add_2 10 = .ok (.astore_n 2, 1) := dk_77 (dk_at dksJ2_add_2_0 10 rfl rfl)
theorem dJ2_add_2_11 : decode cJ2_add_2 11 = .ok (.aload_n 2, 1) := dk_44 (dk_at dksJ2_add_2_0 11 rfl rfl)
theorem dJ2_add_2_12 : decode cJ2_add_2 12 = .ok (.iload_n 3, 1) := dk_29 (dk_at dksJ2_add_2_0 12 rfl rfl)
theorem dJ2_add_2_13 : decode cJ2_add_2 13 = .ok (.aload_n 1, 1) := dk_43 (dk_at dksJ2_add_2_0 13 rfl rfl)
theorem dJ2_add_2_14 : decode cJ2_add_2 14 = .ok (.aastore, 1) := dk_83 (dk_at dksJ2_add_2_0 14 rfl rfl)
theorem dJ2_add_2_15 : decode cJ2_add_2 15 = .ok (.aload_n 0, 1) := dk_42 (dk_at dksJ2_add_2_0 15 rfl rfl)
theorem dJ2_add_2_16 : decode cJ2_add_2 16 = .ok (.iload_n 3, 1) := dk_29 (dk_at dksJ2_add_2_0 16 rfl rfl)
theorem dJ2_add_2_17 : decode cJ2_add_2 17 = .ok (.iconst 1, 1) := dk_4 (dk_at dksJ2_add_2_0 17 rfl rfl)
theorem dJ2_add_2_18 : decode cJ2_add_2 18 = .ok (.iadd, 1) := dk_96 (dk_at dksJ2_add_2_0 18 rfl rfl)
theorem dJ2_add_2_19 : decode cJ2_add_2 19 = .ok (.putfield 48, 3) := dk_181 0 48 (dk_at dksJ2_add_2_0 19 rfl rfl)
theorem dJ2_add_2_22 : decode cJ2_add_2 22 = .ok (.return_, 1) := dk_177 (dk_at dksJ2_add_2_0 22 rfl rfl)
abbrev cJ2_grow : ByteArray := prog_50_method_7_code
def yJ2_grow : MethodName := ⟨RJ2, "grow", "()[Ljava/lang/Object;"⟩
def dkwJ2_grow_0 : List UInt8 := [42, 42, 180, 0, 48, 4, 96, 182, 0, 69, 176]
abbrev dktJ2_grow_0 : List UInt8 := dkwJ2_grow_0 ++ []
theorem dksJ2_grow_0 : cJ2_grow.data.toList.drop 0 = dktJ2_grow_0 := by decide +kernel
theorem dJ2_grow_0 : decode cJ2_grow 0 = .ok (.aload_n 0, 1) := dk_42 (dk_at dksJ2_grow_0 0 rfl rfl)
theorem dJ2_grow_1 : decode cJ2_grow 1 = .ok (.aload_n 0, 1) := dk_42 (dk_at dksJ2_grow_0 1 rfl rfl)
theorem dJ2_grow_2 : decode cJ2_grow 2 = .ok (.getfield 48, 3) := dk_180 0 48 (dk_at dksJ2_grow_0 2 rfl rfl)
theorem dJ2_grow_5 : decode cJ2_grow 5 = .ok (.iconst 1, 1) := dk_4 (dk_at dksJ2_grow_0 5 rfl rfl)
theorem dJ2_grow_6 : decode cJ2_grow 6 = .ok (.iadd, 1) := dk_96 (dk_at dksJ2_grow_0 6 rfl rfl)
theorem dJ2_grow_7 : decode cJ2_grow 7 = .ok (.invokevirtual 69, 3) := dk_182 0 69 (dk_at dksJ2_grow_0 7 rfl rfl)
theorem dJ2_grow_10 : decode cJ2_grow 10 = .ok (.areturn, 1) := dk_176 (dk_at dksJ2_grow_0 10 rfl rfl)
abbrev cJ2_grow_2 : ByteArray := prog_50_method_6_code
def yJ2_grow_2 : MethodName := ⟨RJ2, "grow", "(I)[Ljava/lang/Object;"⟩
def dkwJ2_grow_2_2 : List UInt8 := [27, 184, 0, 79, 189, 0, 7, 90, 181, 0, 9, 176]
abbrev dktJ2_grow_2_2 : List UInt8 := dkwJ2_grow_2_2 ++ []
def dkwJ2_grow_2_1 : List UInt8 := [28, 4, 122, 184, 0, 73, 62, 42, 42, 180, 0, 9, 29, 184, 0, 66, 90, 181, 0, 9, 176, 42, 16, 10]
abbrev dktJ2_grow_2_1 : List UInt8 := dkwJ2_grow_2_1 ++ dktJ2_grow_2_2
def dkwJ2_grow_2_0 : List UInt8 := [42, 180, 0, 9, 190, 61, 28, 157, 0, 13, 42, 180, 0, 9, 178, 0, 39, 165, 0, 28, 28, 27, 28, 100]
abbrev dktJ2_grow_2_0 : List UInt8 := dkwJ2_grow_2_0 ++ dktJ2_grow_2_1
theorem dksJ2_grow_2_0 : cJ2_grow_2.data.toList.drop 0 = dktJ2_grow_2_0 := by decide +kernel
theorem dksJ2_grow_2_1 : cJ2_grow_2.data.toList.drop 24 = dktJ2_grow_2_1 := dk_seg dksJ2_grow_2_0 24 rfl rfl
theorem dksJ2_grow_2_2 : cJ2_grow_2.data.toList.drop 48 = dktJ2_grow_2_2 := dk_seg dksJ2_grow_2_1 24 rfl rfl
theorem dJ2_grow_2_0 : decode cJ2_grow_2 0 = .ok (.aload_n 0, 1) := dk_42 (dk_at dksJ2_grow_2_0 0 rfl rfl)
theorem dJ2_grow_2_1 : decode cJ2_grow_2 1 = .ok (.getfield 9, 3) := dk_180 0 9 (dk_at dksJ2_grow_2_0 1 rfl rfl)
theorem dJ2_grow_2_4 : decode cJ2_grow_2 4 = .ok (.arraylength, 1) := dk_190 (dk_at dksJ2_grow_2_0 4 rfl rfl)
theorem dJ2_grow_2_5 : decode cJ2_grow_2 5 = .ok (.istore_n 2, 1) := dk_61 (dk_at dksJ2_grow_2_0 5 rfl rfl)
theorem dJ2_grow_2_6 : decode cJ2_grow_2 6 = .ok (.iload_n 2, 1) := dk_28 (dk_at dksJ2_grow_2_0 6 rfl rfl)
theorem dJ2_grow_2_7 : decode cJ2_grow_2 7 = .ok (.ifCond .gt 13, 3) := dk_157 0 13 (dk_at dksJ2_grow_2_0 7 rfl rfl)
theorem dJ2_grow_2_10 : decode cJ2_grow_2 10 = .ok (.aload_n 0, 1) := dk_42 (dk_at dksJ2_grow_2_0 10 rfl rfl)
theorem dJ2_grow_2_11 : decode cJ2_grow_2 11 = .ok (.getfield 9, 3) := dk_180 0 9 (dk_at dksJ2_grow_2_0 11 rfl rfl)
theorem dJ2_grow_2_14 : decode cJ2_grow_2 14 = .ok (.getstatic 39, 3) := dk_178 0 39 (dk_at dksJ2_grow_2_0 14 rfl rfl)
theorem dJ2_grow_2_17 : decode cJ2_grow_2 17 = .ok (.if_acmp .eq 28, 3) := dk_165 0 28 (dk_at dksJ2_grow_2_0 17 rfl rfl)
theorem dJ2_grow_2_20 : decode cJ2_grow_2 20 = .ok (.iload_n 2, 1) := dk_28 (dk_at dksJ2_grow_2_0 20 rfl rfl)
theorem dJ2_grow_2_21 : decode cJ2_grow_2 21 = .ok (.iload_n 1, 1) := dk_27 (dk_at dksJ2_grow_2_0 21 rfl rfl)
theorem dJ2_grow_2_22 : decode cJ2_grow_2 22 = .ok (.iload_n 2, 1) := dk_28 (dk_at dksJ2_grow_2_0 22 rfl rfl)
theorem dJ2_grow_2_23 : decode cJ2_grow_2 23 = .ok (.isub, 1) := dk_100 (dk_at dksJ2_grow_2_0 23 rfl rfl)
theorem dJ2_grow_2_24 : decode cJ2_grow_2 24 = .ok (.iload_n 2, 1) := dk_28 (dk_at dksJ2_grow_2_1 0 rfl rfl)
theorem dJ2_grow_2_25 : decode cJ2_grow_2 25 = .ok (.iconst 1, 1) := dk_4 (dk_at dksJ2_grow_2_1 1 rfl rfl)
theorem dJ2_grow_2_26 : decode cJ2_grow_2 26 = .ok (.ishr, 1) := dk_122 (dk_at dksJ2_grow_2_1 2 rfl rfl)
theorem dJ2_grow_2_27 : decode cJ2_grow_2 27 = .ok (.invokestatic 73, 3) := dk_184 0 73 (dk_at dksJ2_grow_2_1 3 rfl rfl)
theorem dJ2_grow_2_30 : decode cJ2_grow_2 30 = .ok (.istore_n 3, 1) := dk_62 (dk_at dksJ2_grow_2_1 6 rfl rfl)
theorem dJ2_grow_2_31 : decode cJ2_grow_2 31 = .ok (.aload_n 0, 1) := dk_42 (dk_at dksJ2_grow_2_1 7 rfl rfl)
theorem dJ2_grow_2_32 : decode cJ2_grow_2 32 = .ok (.aload_n 0, 1) := dk_42 (dk_at dksJ2_grow_2_1 8 rfl rfl)
theorem dJ2_grow_2_33 : decode cJ2_grow_2 33 = .ok (.getfield 9, 3) := dk_180 0 9 (dk_at dksJ2_grow_2_1 9 rfl rfl)
theorem dJ2_grow_2_36 : decode cJ2_grow_2 36 = .ok (.iload_n 3, 1) := dk_29 (dk_at dksJ2_grow_2_1 12 rfl rfl)
theorem dJ2_grow_2_37 : decode cJ2_grow_2 37 = .ok (.invokestatic 66, 3) := dk_184 0 66 (dk_at dksJ2_grow_2_1 13 rfl rfl)
theorem dJ2_grow_2_40 : decode cJ2_grow_2 40 = .ok (.dup_x1, 1) := dk_90 (dk_at dksJ2_grow_2_1 16 rfl rfl)
theorem dJ2_grow_2_41 : decode cJ2_grow_2 41 = .ok (.putfield 9, 3) := dk_181 0 9 (dk_at dksJ2_grow_2_1 17 rfl rfl)
theorem dJ2_grow_2_44 : decode cJ2_grow_2 44 = .ok (.areturn, 1) := dk_176 (dk_at dksJ2_grow_2_1 20 rfl rfl)
theorem dJ2_grow_2_45 : decode cJ2_grow_2 45 = .ok (.aload_n 0, 1) := dk_42 (dk_at dksJ2_grow_2_1 21 rfl rfl)
theorem dJ2_grow_2_46 : decode cJ2_grow_2 46 = .ok (.bipush 10, 2) := dk_16 10 (dk_at dksJ2_grow_2_1 22 rfl rfl)
theorem dJ2_grow_2_48 : decode cJ2_grow_2 48 = .ok (.iload_n 1, 1) := dk_27 (dk_at dksJ2_grow_2_2 0 rfl rfl)
theorem dJ2_grow_2_49 : decode cJ2_grow_2 49 = .ok (.invokestatic 79, 3) := dk_184 0 79 (dk_at dksJ2_grow_2_2 1 rfl rfl)
theorem dJ2_grow_2_52 : decode cJ2_grow_2 52 = .ok (.anewarray 7, 3) := dk_189 0 7 (dk_at dksJ2_grow_2_2 4 rfl rfl)
theorem dJ2_grow_2_55 : decode cJ2_grow_2 55 = .ok (.dup_x1, 1) := dk_90 (dk_at dksJ2_grow_2_2 7 rfl rfl)
theorem dJ2_grow_2_56 : decode cJ2_grow_2 56 = .ok (.putfield 9, 3) := dk_181 0 9 (dk_at dksJ2_grow_2_2 8 rfl rfl)
theorem dJ2_grow_2_59 : decode cJ2_grow_2 59 = .ok (.areturn, 1) := dk_176 (dk_at dksJ2_grow_2_2 11 rfl rfl)
abbrev cJ2_clear : ByteArray := prog_50_method_40_code
def yJ2_clear : MethodName := ⟨RJ2, "clear", "()V"⟩
def dkwJ2_clear_1 : List UInt8 := [181, 0, 48, 62, 29, 28, 162, 0, 13, 43, 29, 1, 83, 132, 3, 1, 167, 255, 244, 177]
abbrev dktJ2_clear_1 : List UInt8 := dkwJ2_clear_1 ++ []
def dkwJ2_clear_0 : List UInt8 := [42, 89, 180, 0, 63, 4, 96, 181, 0, 63, 42, 180, 0, 9, 76, 42, 180, 0, 48, 61, 42, 3, 90]
abbrev dktJ2_clear_0 : List UInt8 := dkwJ2_clear_0 ++ dktJ2_clear_1
theorem dksJ2_clear_0 : cJ2_clear.data.toList.drop 0 = dktJ2_clear_0 := by decide +kernel
theorem dksJ2_clear_1 : cJ2_clear.data.toList.drop 23 = dktJ2_clear_1 := dk_seg dksJ2_clear_0 23 rfl rfl
theorem dJ2_clear_0 : decode cJ2_clear 0 = .ok (.aload_n 0, 1) := dk_42 (dk_at dksJ2_clear_0 0 rfl rfl)
theorem dJ2_clear_1 : decode cJ2_clear 1 = .ok (.dup, 1) := dk_89 (dk_at dksJ2_clear_0 1 rfl rfl)
theorem dJ2_clear_2 : decode cJ2_clear 2 = .ok (.getfield 63, 3) := dk_180 0 63 (dk_at dksJ2_clear_0 2 rfl rfl)
theorem dJ2_clear_5 : decode cJ2_clear 5 = .ok (.iconst 1, 1) := dk_4 (dk_at dksJ2_clear_0 5 rfl rfl)
theorem dJ2_clear_6 : decode cJ2_clear 6 = .ok (.iadd, 1) := dk_96 (dk_at dksJ2_clear_0 6 rfl rfl)
theorem dJ2_clear_7 : decode cJ2_clear 7 = .ok (.putfield 63, 3) := dk_181 0 63 (dk_at dksJ2_clear_0 7 rfl rfl)
theorem dJ2_clear_10 : decode cJ2_clear 10 = .ok (.aload_n 0, 1) := dk_42 (dk_at dksJ2_clear_0 10 rfl rfl)
theorem dJ2_clear_11 : decode cJ2_clear 11 = .ok (.getfield 9, 3) := dk_180 0 9 (dk_at dksJ2_clear_0 11 rfl rfl)
theorem dJ2_clear_14 : decode cJ2_clear 14 = .ok (.astore_n 1, 1) := dk_76 (dk_at dksJ2_clear_0 14 rfl rfl)
theorem dJ2_clear_15 : decode cJ2_clear 15 = .ok (.aload_n 0, 1) := dk_42 (dk_at dksJ2_clear_0 15 rfl rfl)
theorem dJ2_clear_16 : decode cJ2_clear 16 = .ok (.getfield 48, 3) := dk_180 0 48 (dk_at dksJ2_clear_0 16 rfl rfl)
theorem dJ2_clear_19 : decode cJ2_clear 19 = .ok (.istore_n 2, 1) := dk_61 (dk_at dksJ2_clear_0 19 rfl rfl)
theorem dJ2_clear_20 : decode cJ2_clear 20 = .ok (.aload_n 0, 1) := dk_42 (dk_at dksJ2_clear_0 20 rfl rfl)
theorem dJ2_clear_21 : decode cJ2_clear 21 = .ok (.iconst 0, 1) := dk_3 (dk_at dksJ2_clear_0 21 rfl rfl)
theorem dJ2_clear_22 : decode cJ2_clear 22 = .ok (.dup_x1, 1) := dk_90 (dk_at dksJ2_clear_0 22 rfl rfl)
theorem dJ2_clear_23 : decode cJ2_clear 23 = .ok (.putfield 48, 3) := dk_181 0 48 (dk_at dksJ2_clear_1 0 rfl rfl)
theorem dJ2_clear_26 : decode cJ2_clear 26 = .ok (.istore_n 3, 1) := dk_62 (dk_at dksJ2_clear_1 3 rfl rfl)
theorem dJ2_clear_27 : decode cJ2_clear 27 = .ok (.iload_n 3, 1) := dk_29 (dk_at dksJ2_clear_1 4 rfl rfl)
theorem dJ2_clear_28 : decode cJ2_clear 28 = .ok (.iload_n 2, 1) := dk_28 (dk_at dksJ2_clear_1 5 rfl rfl)
theorem dJ2_clear_29 : decode cJ2_clear 29 = .ok (.if_icmp .ge 13, 3) := dk_162 0 13 (dk_at dksJ2_clear_1 6 rfl rfl)
theorem dJ2_clear_32 : decode cJ2_clear 32 = .ok (.aload_n 1, 1) := dk_43 (dk_at dksJ2_clear_1 9 rfl rfl)
theorem dJ2_clear_33 : decode cJ2_clear 33 = .ok (.iload_n 3, 1) := dk_29 (dk_at dksJ2_clear_1 10 rfl rfl)
theorem dJ2_clear_34 : decode cJ2_clear 34 = .ok (.aconst_null, 1) := dk_1 (dk_at dksJ2_clear_1 11 rfl rfl)
theorem dJ2_clear_35 : decode cJ2_clear 35 = .ok (.aastore, 1) := dk_83 (dk_at dksJ2_clear_1 12 rfl rfl)
theorem dJ2_clear_36 : decode cJ2_clear 36 = .ok (.iinc 3 1, 3) := dk_132 3 1 (dk_at dksJ2_clear_1 13 rfl rfl)
theorem dJ2_clear_39 : decode cJ2_clear 39 = .ok (.goto (-12), 3) := dk_167 255 244 (dk_at dksJ2_clear_1 16 rfl rfl)
theorem dJ2_clear_42 : decode cJ2_clear 42 = .ok (.return_, 1) := dk_177 (dk_at dksJ2_clear_1 19 rfl rfl)
abbrev cJ2_addAll : ByteArray := prog_50_method_41_code
def yJ2_addAll : MethodName := ⟨RJ2, "addAll", "(Ljava/util/Collection;)Z"⟩
def dkwJ2_addAll_3 : List UInt8 := [181, 0, 48, 4, 172]
abbrev dktJ2_addAll_3 : List UInt8 := dkwJ2_addAll_3 ++ []
def dkwJ2_addAll_2 : List UInt8 := [21, 5, 29, 96, 182, 0, 69, 58, 4, 44, 3, 25, 4, 21, 5, 29, 184, 0, 112, 42, 21, 5, 29, 96]
abbrev dktJ2_addAll_2 : List UInt8 := dkwJ2_addAll_2 ++ dktJ2_addAll_3
def dkwJ2_addAll_1 : List UInt8 := [3, 172, 29, 42, 180, 0, 9, 89, 58, 4, 190, 42, 180, 0, 48, 89, 54, 5, 100, 164, 0, 13, 42]
abbrev dktJ2_addAll_1 : List UInt8 := dkwJ2_addAll_1 ++ dktJ2_addAll_2
def dkwJ2_addAll_0 : List UInt8 := [43, 185, 0, 42, 1, 0, 77, 42, 89, 180, 0, 63, 4, 96, 181, 0, 63, 44, 190, 62, 29, 154, 0, 5]
abbrev dktJ2_addAll_0 : List UInt8 := dkwJ2_addAll_0 ++ dktJ2_addAll_1
theorem dksJ2_addAll_0 : cJ2_addAll.data.toList.drop 0 = dktJ2_addAll_0 := by decide +kernel
theorem dksJ2_addAll_1 : cJ2_addAll.data.toList.drop 24 = dktJ2_addAll_1 := dk_seg dksJ2_addAll_0 24 rfl rfl
theorem dksJ2_addAll_2 : cJ2_addAll.data.toList.drop 47 = dktJ2_addAll_2 := dk_seg dksJ2_addAll_1 23 rfl rfl
theorem dksJ2_addAll_3 : cJ2_addAll.data.toList.drop 71 = dktJ2_addAll_3 := dk_seg dksJ2_addAll_2 24 rfl rfl
theorem dJ2_addAll_0 : decode cJ2_addAll 0 = .ok (.aload_n 1, 1) := dk_43 (dk_at dksJ2_addAll_0 0 rfl rfl)
theorem dJ2_addAll_1 : decode cJ2_addAll 1 = .ok (.invokeinterface 42 1, 5) := by decide +kernel
theorem dJ2_addAll_6 : decode cJ2_addAll 6 = .ok (.astore_n 2, 1) := dk_77 (dk_at dksJ2_addAll_0 6 rfl rfl)
theorem dJ2_addAll_7 : decode cJ2_addAll 7 = .ok (.aload_n 0, 1) := dk_42 (dk_at dksJ2_addAll_0 7 rfl rfl)
theorem dJ2_addAll_8 : decode cJ2_addAll 8 = .ok (.dup, 1) := dk_89 (dk_at dksJ2_addAll_0 8 rfl rfl)
theorem dJ2_addAll_9 : decode cJ2_addAll 9 = .ok (.getfield 63, 3) := dk_180 0 63 (dk_at dksJ2_addAll_0 9 rfl rfl)
theorem dJ2_addAll_12 : decode cJ2_addAll 12 = .ok (.iconst 1, 1) := dk_4 (dk_at dksJ2_addAll_0 12 rfl rfl)
theorem dJ2_addAll_13 : decode cJ2_addAll 13 = .ok (.iadd, 1) := dk_96 (dk_at dksJ2_addAll_0 13 rfl rfl)
theorem dJ2_addAll_14 : decode cJ2_addAll 14 = .ok (.putfield 63, 3) := dk_181 0 63 (dk_at dksJ2_addAll_0 14 rfl rfl)
theorem dJ2_addAll_17 : decode cJ2_addAll 17 = .ok (.aload_n 2, 1) := dk_44 (dk_at dksJ2_addAll_0 17 rfl rfl)
theorem dJ2_addAll_18 : decode cJ2_addAll 18 = .ok (.arraylength, 1) := dk_190 (dk_at dksJ2_addAll_0 18 rfl rfl)
theorem dJ2_addAll_19 : decode cJ2_addAll 19 = .ok (.istore_n 3, 1) := dk_62 (dk_at dksJ2_addAll_0 19 rfl rfl)
theorem dJ2_addAll_20 : decode cJ2_addAll 20 = .ok (.iload_n 3, 1) := dk_29 (dk_at dksJ2_addAll_0 20 rfl rfl)
theorem dJ2_addAll_21 : decode cJ2_addAll 21 = .ok (.ifCond .ne 5, 3) := dk_154 0 5 (dk_at dksJ2_addAll_0 21 rfl rfl)
theorem dJ2_addAll_24 : decode cJ2_addAll 24 = .ok (.iconst 0, 1) := dk_3 (dk_at dksJ2_addAll_1 0 rfl rfl)
theorem dJ2_addAll_25 : decode cJ2_addAll 25 = .ok (.ireturn, 1) := dk_172 (dk_at dksJ2_addAll_1 1 rfl rfl)
theorem dJ2_addAll_26 : decode cJ2_addAll 26 = .ok (.iload_n 3, 1) := dk_29 (dk_at dksJ2_addAll_1 2 rfl rfl)
theorem dJ2_addAll_27 : decode cJ2_addAll 27 = .ok (.aload_n 0, 1) := dk_42 (dk_at dksJ2_addAll_1 3 rfl rfl)
theorem dJ2_addAll_28 : decode cJ2_addAll 28 = .ok (.getfield 9, 3) := dk_180 0 9 (dk_at dksJ2_addAll_1 4 rfl rfl)
theorem dJ2_addAll_31 : decode cJ2_addAll 31 = .ok (.dup, 1) := dk_89 (dk_at dksJ2_addAll_1 7 rfl rfl)
theorem dJ2_addAll_32 : decode cJ2_addAll 32 = .ok (.astore 4, 2) := dk_58 4 (dk_at dksJ2_addAll_1 8 rfl rfl)
theorem dJ2_addAll_34 : decode cJ2_addAll 34 = .ok (.arraylength, 1) := dk_190 (dk_at dksJ2_addAll_1 10 rfl rfl)
theorem dJ2_addAll_35 : decode cJ2_addAll 35 = .ok (.aload_n 0, 1) := dk_42 (dk_at dksJ2_addAll_1 11 rfl rfl)
theorem dJ2_addAll_36 : decode cJ2_addAll 36 = .ok (.getfield 48, 3) := dk_180 0 48 (dk_at dksJ2_addAll_1 12 rfl rfl)
theorem dJ2_addAll_39 : decode cJ2_addAll 39 = .ok (.dup, 1) := dk_89 (dk_at dksJ2_addAll_1 15 rfl rfl)
theorem dJ2_addAll_40 : decode cJ2_addAll 40 = .ok (.istore 5, 2) := dk_54 5 (dk_at dksJ2_addAll_1 16 rfl rfl)
theorem dJ2_addAll_42 : decode cJ2_addAll 42 = .ok (.isub, 1) := dk_100 (dk_at dksJ2_addAll_1 18 rfl rfl)
theorem dJ2_addAll_43 : decode cJ2_addAll 43 = .ok (.if_icmp .le 13, 3) := dk_164 0 13 (dk_at dksJ2_addAll_1 19 rfl rfl)
theorem dJ2_addAll_46 : decode cJ2_addAll 46 = .ok (.aload_n 0, 1) := dk_42 (dk_at dksJ2_addAll_1 22 rfl rfl)
theorem dJ2_addAll_47 : decode cJ2_addAll 47 = .ok (.iload 5, 2) := dk_21 5 (dk_at dksJ2_addAll_2 0 rfl rfl)
theorem dJ2_addAll_49 : decode cJ2_addAll 49 = .ok (.iload_n 3, 1) := dk_29 (dk_at dksJ2_addAll_2 2 rfl rfl)
theorem dJ2_addAll_50 : decode cJ2_addAll 50 = .ok (.iadd, 1) := dk_96 (dk_at dksJ2_addAll_2 3 rfl rfl)
theorem dJ2_addAll_51 : decode cJ2_addAll 51 = .ok (.invokevirtual 69, 3) := dk_182 0 69 (dk_at dksJ2_addAll_2 4 rfl rfl)
theorem dJ2_addAll_54 : decode cJ2_addAll 54 = .ok (.astore 4, 2) := dk_58 4 (dk_at dksJ2_addAll_2 7 rfl rfl)
theorem dJ2_addAll_56 : decode cJ2_addAll 56 = .ok (.aload_n 2, 1) := dk_44 (dk_at dksJ2_addAll_2 9 rfl rfl)
theorem dJ2_addAll_57 : decode cJ2_addAll 57 = .ok (.iconst 0, 1) := dk_3 (dk_at dksJ2_addAll_2 10 rfl rfl)
theorem dJ2_addAll_58 : decode cJ2_addAll 58 = .ok (.aload 4, 2) := dk_25 4 (dk_at dksJ2_addAll_2 11 rfl rfl)
theorem dJ2_addAll_60 : decode cJ2_addAll 60 = .ok (.iload 5, 2) := dk_21 5 (dk_at dksJ2_addAll_2 13 rfl rfl)
theorem dJ2_addAll_62 : decode cJ2_addAll 62 = .ok (.iload_n 3, 1) := dk_29 (dk_at dksJ2_addAll_2 15 rfl rfl)
theorem dJ2_addAll_63 : decode cJ2_addAll 63 = .ok (.invokestatic 112, 3) := dk_184 0 112 (dk_at dksJ2_addAll_2 16 rfl rfl)
theorem dJ2_addAll_66 : decode cJ2_addAll 66 = .ok (.aload_n 0, 1) := dk_42 (dk_at dksJ2_addAll_2 19 rfl rfl)
theorem dJ2_addAll_67 : decode cJ2_addAll 67 = .ok (.iload 5, 2) := dk_21 5 (dk_at dksJ2_addAll_2 20 rfl rfl)
theorem dJ2_addAll_69 : decode cJ2_addAll 69 = .ok (.iload_n 3, 1) := dk_29 (dk_at dksJ2_addAll_2 22 rfl rfl)
theorem dJ2_addAll_70 : decode cJ2_addAll 70 = .ok (.iadd, 1) := dk_96 (dk_at dksJ2_addAll_2 23 rfl rfl)
theorem dJ2_addAll_71 : decode cJ2_addAll 71 = .ok (.putfield 48, 3) := dk_181 0 48 (dk_at dksJ2_addAll_3 0 rfl rfl)
theorem dJ2_addAll_74 : decode cJ2_addAll 74 = .ok (.iconst 1, 1) := dk_4 (dk_at dksJ2_addAll_3 3 rfl rfl)
theorem dJ2_addAll_75 : decode cJ2_addAll 75 = .ok (.ireturn, 1) := dk_172 (dk_at dksJ2_addAll_3 4 rfl rfl)
abbrev cJ2_toArray : ByteArray := prog_50_method_16_code
def yJ2_toArray : MethodName := ⟨RJ2, "toArray", "()[Ljava/lang/Object;"⟩
def dkwJ2_toArray_0 : List UInt8 := [42, 180, 0, 9, 42, 180, 0, 48, 184, 0, 66, 176]
abbrev dktJ2_toArray_0 : List UInt8 := dkwJ2_toArray_0 ++ []
theorem dksJ2_toArray_0 : cJ2_toArray.data.toList.drop 0 = dktJ2_toArray_0 := by decide +kernel
theorem dJ2_toArray_0 : decode cJ2_toArray 0 = .ok (.aload_n 0, 1) := dk_42 (dk_at dksJ2_toArray_0 0 rfl rfl)
theorem dJ2_toArray_1 : decode cJ2_toArray 1 = .ok (.getfield 9, 3) := dk_180 0 9 (dk_at dksJ2_toArray_0 1 rfl rfl)
theorem dJ2_toArray_4 : decode cJ2_toArray 4 = .ok (.aload_n 0, 1) := dk_42 (dk_at dksJ2_toArray_0 4 rfl rfl)
theorem dJ2_toArray_5 : decode cJ2_toArray 5 = .ok (.getfield 48, 3) := dk_180 0 48 (dk_at dksJ2_toArray_0 5 rfl rfl)
theorem dJ2_toArray_8 : decode cJ2_toArray 8 = .ok (.invokestatic 66, 3) := dk_184 0 66 (dk_at dksJ2_toArray_0 8 rfl rfl)
theorem dJ2_toArray_11 : decode cJ2_toArray 11 = .ok (.areturn, 1) := dk_176 (dk_at dksJ2_toArray_0 11 rfl rfl)
abbrev cJ2_isEmpty : ByteArray := prog_50_method_9_code
def yJ2_isEmpty : MethodName := ⟨RJ2, "isEmpty", "()Z"⟩
def dkwJ2_isEmpty_0 : List UInt8 := [42, 180, 0, 48, 154, 0, 7, 4, 167, 0, 4, 3, 172]
abbrev dktJ2_isEmpty_0 : List UInt8 := dkwJ2_isEmpty_0 ++ []
theorem dksJ2_isEmpty_0 : cJ2_isEmpty.data.toList.drop 0 = dktJ2_isEmpty_0 := by decide +kernel
theorem dJ2_isEmpty_0 : decode cJ2_isEmpty 0 = .ok (.aload_n 0, 1) := dk_42 (dk_at dksJ2_isEmpty_0 0 rfl rfl)
theorem dJ2_isEmpty_1 : decode cJ2_isEmpty 1 = .ok (.getfield 48, 3) := dk_180 0 48 (dk_at dksJ2_isEmpty_0 1 rfl rfl)
theorem dJ2_isEmpty_4 : decode cJ2_isEmpty 4 = .ok (.ifCond .ne 7, 3) := dk_154 0 7 (dk_at dksJ2_isEmpty_0 4 rfl rfl)
theorem dJ2_isEmpty_7 : decode cJ2_isEmpty 7 = .ok (.iconst 1, 1) := dk_4 (dk_at dksJ2_isEmpty_0 7 rfl rfl)
theorem dJ2_isEmpty_8 : decode cJ2_isEmpty 8 = .ok (.goto 4, 3) := dk_167 0 4 (dk_at dksJ2_isEmpty_0 8 rfl rfl)
theorem dJ2_isEmpty_11 : decode cJ2_isEmpty 11 = .ok (.iconst 0, 1) := dk_3 (dk_at dksJ2_isEmpty_0 11 rfl rfl)
theorem dJ2_isEmpty_12 : decode cJ2_isEmpty 12 = .ok (.ireturn, 1) := dk_172 (dk_at dksJ2_isEmpty_0 12 rfl rfl)
theorem q43 : (Jvm.Cond.initialized "java/util/ArrayList") ∈ lw_all := lw_g (lw_at lw_m1 4 rfl) rfl
theorem q99 : (Jvm.Cond.instantiable "java/util/ArrayList" (3 : Nat)) ∈ lw_all := lw_g (lw_at lw_m1 60 rfl) rfl
theorem q101 : (Jvm.Cond.instanceMethod ({ cls := "java/util/ArrayList", name := "<init>", desc := "()V" } : Jvm.MethodName)) ∈ lw_all := lw_g (lw_at lw_m1 62 rfl) rfl
theorem q102 : (Jvm.Cond.code ({ cls := "java/util/ArrayList", name := "<init>", desc := "()V" } : Jvm.MethodName) prog_50_method_2_code (1 : Nat) (Option.none : Option Jvm.ClassFile.FieldType)) ∈ lw_all := lw_g (lw_at lw_m1 63 rfl) rfl
theorem q103 : (Jvm.Cond.methodLink "java/util/ArrayList" (1 : Nat) ({ cls := "java/util/AbstractList", name := "<init>", desc := "()V" } : Jvm.MethodName)) ∈ lw_all := lw_g (lw_at lw_m1 64 rfl) rfl
theorem q110 : (Jvm.Cond.fieldLink "java/util/ArrayList" (39 : Nat) "java/util/ArrayList" "DEFAULTCAPACITY_EMPTY_ELEMENTDATA" "[Ljava/lang/Object;") ∈ lw_all := lw_g (lw_at lw_m1 71 rfl) rfl
theorem q111 : (Jvm.Cond.laysStatic "java/util/ArrayList" "DEFAULTCAPACITY_EMPTY_ELEMENTDATA" "[Ljava/lang/Object;") ∈ lw_tbl := lw_at lw_m1 72 rfl
theorem q112 : (Jvm.Cond.fieldLink "java/util/ArrayList" (9 : Nat) "java/util/ArrayList" "elementData" "[Ljava/lang/Object;") ∈ lw_all := lw_g (lw_at lw_m1 73 rfl) rfl
theorem q115 : (Jvm.Cond.fieldLink "java/util/ArrayList" (48 : Nat) "java/util/ArrayList" "size" "I") ∈ lw_all := lw_g (lw_at lw_m1 76 rfl) rfl
theorem q118 : (Jvm.Cond.sameField "java/util/ArrayList" "java/util/AbstractList" "modCount" "I") ∈ lw_all := lw_g (lw_at lw_m1 79 rfl) rfl
theorem q119 : (Jvm.Cond.fieldLink "java/util/ArrayList" (63 : Nat) "java/util/ArrayList" "modCount" "I") ∈ lw_all := lw_g (lw_at lw_m1 80 rfl) rfl
theorem q120 : (Jvm.Cond.lays "java/util/ArrayList" "java/util/ArrayList" "elementData" "[Ljava/lang/Object;") ∈ lw_all := lw_g (lw_at lw_m1 81 rfl) rfl
theorem q121 : (Jvm.Cond.soleField "java/util/ArrayList" "elementData") ∈ lw_all := lw_g (lw_at lw_m1 82 rfl) rfl
theorem q122 : (Jvm.Cond.lays "java/util/ArrayList" "java/util/ArrayList" "size" "I") ∈ lw_all := lw_g (lw_at lw_m1 83 rfl) rfl
theorem q123 : (Jvm.Cond.soleField "java/util/ArrayList" "size") ∈ lw_all := lw_g (lw_at lw_m1 84 rfl) rfl
theorem q124 : (Jvm.Cond.lays "java/util/ArrayList" "java/util/AbstractList" "modCount" "I") ∈ lw_all := lw_g (lw_at lw_m1 85 rfl) rfl
theorem q126 : (Jvm.Cond.superclass "java/util/ArrayList" "java/util/AbstractList") ∈ lw_all := lw_g (lw_at lw_m1 87 rfl) rfl
theorem q182 : (Jvm.Cond.instanceMethod ({ cls := "java/util/ArrayList", name := "size", desc := "()I" } : Jvm.MethodName)) ∈ lw_all := lw_g (lw_at lw_m1 143 rfl) rfl
theorem q183 : (Jvm.Cond.selects "java/util/ArrayList" ({ cls := "java/util/ArrayList", name := "size", desc := "()I" } : Jvm.MethodName) ({ cls := "java/util/ArrayList", name := "size", desc := "()I" } : Jvm.MethodName)) ∈ lw_all := lw_g (lw_at lw_m1 144 rfl) rfl
theorem q184 : (Jvm.Cond.code ({ cls := "java/util/ArrayList", name := "size", desc := "()I" } : Jvm.MethodName) prog_50_method_8_code (1 : Nat) (Option.some Jvm.ClassFile.FieldType.int)) ∈ lw_all := lw_g (lw_at lw_m1 145 rfl) rfl
theorem q190 : (Jvm.Cond.instanceMethod ({ cls := "java/util/ArrayList", name := "iterator", desc := "()Ljava/util/Iterator;" } : Jvm.MethodName)) ∈ lw_all := lw_g (lw_at lw_m1 151 rfl) rfl
theorem q191 : (Jvm.Cond.selects "java/util/ArrayList" ({ cls := "java/util/ArrayList", name := "iterator", desc := "()Ljava/util/Iterator;" } : Jvm.MethodName) ({ cls := "java/util/ArrayList", name := "iterator", desc := "()Ljava/util/Iterator;" } : Jvm.MethodName)) ∈ lw_all := lw_g (lw_at lw_m1 152 rfl) rfl
theorem q192 : (Jvm.Cond.code ({ cls := "java/util/ArrayList", name := "iterator", desc := "()Ljava/util/Iterator;" } : Jvm.MethodName) prog_50_method_55_code (1 : Nat) (Option.some (Jvm.ClassFile.FieldType.object "java/util/Iterator"))) ∈ lw_all := lw_g (lw_at lw_m1 153 rfl) rfl
theorem q193 : (Jvm.Cond.classLink "java/util/ArrayList" (267 : Nat) "java/util/ArrayList$Itr") ∈ lw_all := lw_g (lw_at lw_m1 154 rfl) rfl
theorem q195 : (Jvm.Cond.methodLink "java/util/ArrayList" (269 : Nat) ({ cls := "java/util/ArrayList$Itr", name := "<init>", desc := "(Ljava/util/ArrayList;)V" } : Jvm.MethodName)) ∈ lw_all := lw_g (lw_at lw_m1 156 rfl) rfl
theorem q344 : (Jvm.Cond.instanceMethod ({ cls := "java/util/ArrayList", name := "get", desc := "(I)Ljava/lang/Object;" } : Jvm.MethodName)) ∈ lw_all := lw_g (lw_at lw_m2 65 rfl) rfl
theorem q345 : (Jvm.Cond.selects "java/util/ArrayList" ({ cls := "java/util/ArrayList", name := "get", desc := "(I)Ljava/lang/Object;" } : Jvm.MethodName) ({ cls := "java/util/ArrayList", name := "get", desc := "(I)Ljava/lang/Object;" } : Jvm.MethodName)) ∈ lw_all := lw_g (lw_at lw_m2 66 rfl) rfl
theorem q346 : (Jvm.Cond.code ({ cls := "java/util/ArrayList", name := "get", desc := "(I)Ljava/lang/Object;" } : Jvm.MethodName) prog_50_method_20_code (2 : Nat) (Option.some (Jvm.ClassFile.FieldType.object "java/lang/Object"))) ∈ lw_all := lw_g (lw_at lw_m2 67 rfl) rfl
theorem q347 : (Jvm.Cond.methodLink "java/util/ArrayList" (118 : Nat) ({ cls := "java/util/Objects", name := "checkIndex", desc := "(II)I" } : Jvm.MethodName)) ∈ lw_all := lw_g (lw_at lw_m2 68 rfl) rfl
theorem q353 : (Jvm.Cond.methodLink "java/util/ArrayList" (123 : Nat) ({ cls := "java/util/ArrayList", name := "elementData", desc := "(I)Ljava/lang/Object;" } : Jvm.MethodName)) ∈ lw_all := lw_g (lw_at lw_m2 74 rfl) rfl
theorem q354 : (Jvm.Cond.instanceMethod ({ cls := "java/util/ArrayList", name := "elementData", desc := "(I)Ljava/lang/Object;" } : Jvm.MethodName)) ∈ lw_all := lw_g (lw_at lw_m2 75 rfl) rfl
theorem q355 : (Jvm.Cond.selects "java/util/ArrayList" ({ cls := "java/util/ArrayList", name := "elementData", desc := "(I)Ljava/lang/Object;" } : Jvm.MethodName) ({ cls := "java/util/ArrayList", name := "elementData", desc := "(I)Ljava/lang/Object;" } : Jvm.MethodName)) ∈ lw_all := lw_g (lw_at lw_m2 76 rfl) rfl
theorem q356 : (Jvm.Cond.code ({ cls := "java/util/ArrayList", name := "elementData", desc := "(I)Ljava/lang/Object;" } : Jvm.MethodName) prog_50_method_18_code (2 : Nat) (Option.some (Jvm.ClassFile.FieldType.object "java/lang/Object"))) ∈ lw_all := lw_g (lw_at lw_m2 77 rfl) rfl
theorem q526 : (Jvm.Cond.instanceMethod ({ cls := "java/util/ArrayList", name := "add", desc := "(Ljava/lang/Object;)Z" } : Jvm.MethodName)) ∈ lw_all := lw_g (lw_at lw_m3 7 rfl) rfl
theorem q527 : (Jvm.Cond.selects "java/util/ArrayList" ({ cls := "java/util/ArrayList", name := "add", desc := "(Ljava/lang/Object;)Z" } : Jvm.MethodName) ({ cls := "java/util/ArrayList", name := "add", desc := "(Ljava/lang/Object;)Z" } : Jvm.MethodName)) ∈ lw_all := lw_g (lw_at lw_m3 8 rfl) rfl
theorem q528 : (Jvm.Cond.code ({ cls := "java/util/ArrayList", name := "add", desc := "(Ljava/lang/Object;)Z" } : Jvm.MethodName) prog_50_method_25_code (2 : Nat) (Option.some Jvm.ClassFile.FieldType.boolean)) ∈ lw_all := lw_g (lw_at lw_m3 9 rfl) rfl
theorem q529 : (Jvm.Cond.methodLink "java/util/ArrayList" (131 : Nat) ({ cls := "java/util/ArrayList", name := "add", desc := "(Ljava/lang/Object;[Ljava/lang/Object;I)V" } : Jvm.MethodName)) ∈ lw_all := lw_g (lw_at lw_m3 10 rfl) rfl
theorem q530 : (Jvm.Cond.privateMethod ({ cls := "java/util/ArrayList", name := "add", desc := "(Ljava/lang/Object;[Ljava/lang/Object;I)V" } : Jvm.MethodName)) ∈ lw_tbl := lw_at lw_m3 11 rfl
theorem q531 : (Jvm.Cond.instanceMethod ({ cls := "java/util/ArrayList", name := "add", desc := "(Ljava/lang/Object;[Ljava/lang/Object;I)V" } : Jvm.MethodName)) ∈ lw_all := lw_g (lw_at lw_m3 12 rfl) rfl
theorem q532 : (Jvm.Cond.code ({ cls := "java/util/ArrayList", name := "add", desc := "(Ljava/lang/Object;[Ljava/lang/Object;I)V" } : Jvm.MethodName) prog_50_method_24_code (4 : Nat) (Option.none : Option Jvm.ClassFile.FieldType)) ∈ lw_all := lw_g (lw_at lw_m3 13 rfl) rfl
theorem q533 : (Jvm.Cond.methodLink "java/util/ArrayList" (129 : Nat) ({ cls := "java/util/ArrayList", name := "grow", desc := "()[Ljava/lang/Object;" } : Jvm.MethodName)) ∈ lw_all := lw_g (lw_at lw_m3 14 rfl) rfl
theorem q534 : (Jvm.Cond.privateMethod ({ cls := "java/util/ArrayList", name := "grow", desc := "()[Ljava/lang/Object;" } : Jvm.MethodName)) ∈ lw_tbl := lw_at lw_m3 15 rfl
theorem q535 : (Jvm.Cond.instanceMethod ({ cls := "java/util/ArrayList", name := "grow", desc := "()[Ljava/lang/Object;" } : Jvm.MethodName)) ∈ lw_all := lw_g (lw_at lw_m3 16 rfl) rfl
theorem q536 : (Jvm.Cond.code ({ cls := "java/util/ArrayList", name := "grow", desc := "()[Ljava/lang/Object;" } : Jvm.MethodName) prog_50_method_7_code (1 : Nat) (Option.some (Jvm.ClassFile.FieldType.array (Jvm.ClassFile.FieldType.object "java/lang/Object")))) ∈ lw_all := lw_g (lw_at lw_m3 17 rfl) rfl
theorem q537 : (Jvm.Cond.methodLink "java/util/ArrayList" (69 : Nat) ({ cls := "java/util/ArrayList", name := "grow", desc := "(I)[Ljava/lang/Object;" } : Jvm.MethodName)) ∈ lw_all := lw_g (lw_at lw_m3 18 rfl) rfl
theorem q538 : (Jvm.Cond.privateMethod ({ cls := "java/util/ArrayList", name := "grow", desc := "(I)[Ljava/lang/Object;" } : Jvm.MethodName)) ∈ lw_tbl := lw_at lw_m3 19 rfl
theorem q539 : (Jvm.Cond.instanceMethod ({ cls := "java/util/ArrayList", name := "grow", desc := "(I)[Ljava/lang/Object;" } : Jvm.MethodName)) ∈ lw_all := lw_g (lw_at lw_m3 20 rfl) rfl
theorem q540 : (Jvm.Cond.code ({ cls := "java/util/ArrayList", name := "grow", desc := "(I)[Ljava/lang/Object;" } : Jvm.MethodName) prog_50_method_6_code (4 : Nat) (Option.some (Jvm.ClassFile.FieldType.array (Jvm.ClassFile.FieldType.object "java/lang/Object")))) ∈ lw_all := lw_g (lw_at lw_m3 21 rfl) rfl
theorem q541 : (Jvm.Cond.methodLink "java/util/ArrayList" (73 : Nat) ({ cls := "jdk/internal/util/ArraysSupport", name := "newLength", desc := "(III)I" } : Jvm.MethodName)) ∈ lw_all := lw_g (lw_at lw_m3 22 rfl) rfl
theorem q551 : (Jvm.Cond.methodLink "java/util/ArrayList" (66 : Nat) ({ cls := "java/util/Arrays", name := "copyOf", desc := "([Ljava/lang/Object;I)[Ljava/lang/Object;" } : Jvm.MethodName)) ∈ lw_all := lw_g (lw_at lw_m3 32 rfl) rfl
theorem q585 : (Jvm.Cond.selects "java/util/ArrayList" ({ cls := "java/lang/Object", name := "getClass", desc := "()Ljava/lang/Class;" } : Jvm.MethodName) ({ cls := "java/lang/Object", name := "getClass", desc := "()Ljava/lang/Class;" } : Jvm.MethodName)) ∈ lw_all := lw_g (lw_at lw_m3 66 rfl) rfl
theorem q601 : (Jvm.Cond.methodLink "java/util/ArrayList" (79 : Nat) ({ cls := "java/lang/Math", name := "max", desc := "(II)I" } : Jvm.MethodName)) ∈ lw_all := lw_g (lw_at lw_m3 82 rfl) rfl
theorem q602 : (Jvm.Cond.classLink "java/util/ArrayList" (7 : Nat) "java/lang/Object") ∈ lw_all := lw_g (lw_at lw_m3 83 rfl) rfl
theorem q885 : (Jvm.Cond.instanceMethod ({ cls := "java/util/ArrayList", name := "clear", desc := "()V" } : Jvm.MethodName)) ∈ lw_all := lw_g (lw_at lw_m4 126 rfl) rfl
theorem q886 : (Jvm.Cond.selects "java/util/ArrayList" ({ cls := "java/util/ArrayList", name := "clear", desc := "()V" } : Jvm.MethodName) ({ cls := "java/util/ArrayList", name := "clear", desc := "()V" } : Jvm.MethodName)) ∈ lw_all := lw_g (lw_at lw_m4 127 rfl) rfl
theorem q887 : (Jvm.Cond.code ({ cls := "java/util/ArrayList", name := "clear", desc := "()V" } : Jvm.MethodName) prog_50_method_40_code (4 : Nat) (Option.none : Option Jvm.ClassFile.FieldType)) ∈ lw_all := lw_g (lw_at lw_m4 128 rfl) rfl
theorem q1272 : (Jvm.Cond.selects "java/util/ArrayList" ({ cls := "java/util/AbstractCollection", name := "size", desc := "()I" } : Jvm.MethodName) ({ cls := "java/util/ArrayList", name := "size", desc := "()I" } : Jvm.MethodName)) ∈ lw_all := lw_g (lw_at lw_m6 33 rfl) rfl
theorem q1324 : (Jvm.Cond.instanceMethod ({ cls := "java/util/ArrayList", name := "addAll", desc := "(Ljava/util/Collection;)Z" } : Jvm.MethodName)) ∈ lw_all := lw_g (lw_at lw_m6 85 rfl) rfl
theorem q1325 : (Jvm.Cond.selects "java/util/ArrayList" ({ cls := "java/util/ArrayList", name := "addAll", desc := "(Ljava/util/Collection;)Z" } : Jvm.MethodName) ({ cls := "java/util/ArrayList", name := "addAll", desc := "(Ljava/util/Collection;)Z" } : Jvm.MethodName)) ∈ lw_all := lw_g (lw_at lw_m6 86 rfl) rfl
theorem q1326 : (Jvm.Cond.code ({ cls := "java/util/ArrayList", name := "addAll", desc := "(Ljava/util/Collection;)Z" } : Jvm.MethodName) prog_50_method_41_code (6 : Nat) (Option.some Jvm.ClassFile.FieldType.boolean)) ∈ lw_all := lw_g (lw_at lw_m6 87 rfl) rfl
theorem q1327 : (Jvm.Cond.interfaceEntry "java/util/ArrayList" (42 : Nat)) ∈ lw_tbl := lw_at lw_m6 88 rfl
theorem q1328 : (Jvm.Cond.methodLink "java/util/ArrayList" (42 : Nat) ({ cls := "java/util/Collection", name := "toArray", desc := "()[Ljava/lang/Object;" } : Jvm.MethodName)) ∈ lw_all := lw_g (lw_at lw_m6 89 rfl) rfl
theorem q1331 : (Jvm.Cond.castable "java/util/ArrayList" "java/util/Collection") ∈ lw_tbl := lw_at lw_m6 92 rfl
theorem q1332 : (Jvm.Cond.selects "java/util/ArrayList" ({ cls := "java/util/Collection", name := "toArray", desc := "()[Ljava/lang/Object;" } : Jvm.MethodName) ({ cls := "java/util/ArrayList", name := "toArray", desc := "()[Ljava/lang/Object;" } : Jvm.MethodName)) ∈ lw_all := lw_g (lw_at lw_m6 93 rfl) rfl
theorem q1333 : (Jvm.Cond.unhidden "java/util/ArrayList" "toArray" "()[Ljava/lang/Object;") ∈ lw_tbl := lw_at lw_m6 94 rfl
theorem q1334 : (Jvm.Cond.instanceMethod ({ cls := "java/util/ArrayList", name := "toArray", desc := "()[Ljava/lang/Object;" } : Jvm.MethodName)) ∈ lw_all := lw_g (lw_at lw_m6 95 rfl) rfl
theorem q1335 : (Jvm.Cond.publicMethod ({ cls := "java/util/ArrayList", name := "toArray", desc := "()[Ljava/lang/Object;" } : Jvm.MethodName)) ∈ lw_tbl := lw_at lw_m6 96 rfl
theorem q1336 : (Jvm.Cond.code ({ cls := "java/util/ArrayList", name := "toArray", desc := "()[Ljava/lang/Object;" } : Jvm.MethodName) prog_50_method_16_code (1 : Nat) (Option.some (Jvm.ClassFile.FieldType.array (Jvm.ClassFile.FieldType.object "java/lang/Object")))) ∈ lw_all := lw_g (lw_at lw_m6 97 rfl) rfl
theorem q1343 : (Jvm.Cond.methodLink "java/util/ArrayList" (112 : Nat) ({ cls := "java/lang/System", name := "arraycopy", desc := "(Ljava/lang/Object;ILjava/lang/Object;II)V" } : Jvm.MethodName)) ∈ lw_all := lw_g (lw_at lw_m6 104 rfl) rfl
theorem q1454 : (Jvm.Cond.instanceMethod ({ cls := "java/util/ArrayList", name := "isEmpty", desc := "()Z" } : Jvm.MethodName)) ∈ lw_all := lw_g (lw_at lw_m6 215 rfl) rfl
theorem q1455 : (Jvm.Cond.selects "java/util/ArrayList" ({ cls := "java/util/ArrayList", name := "isEmpty", desc := "()Z" } : Jvm.MethodName) ({ cls := "java/util/ArrayList", name := "isEmpty", desc := "()Z" } : Jvm.MethodName)) ∈ lw_all := lw_g (lw_at lw_m6 216 rfl) rfl
theorem q1456 : (Jvm.Cond.code ({ cls := "java/util/ArrayList", name := "isEmpty", desc := "()Z" } : Jvm.MethodName) prog_50_method_9_code (1 : Nat) (Option.some Jvm.ClassFile.FieldType.boolean)) ∈ lw_all := lw_g (lw_at lw_m6 217 rfl) rfl
theorem q1984 : (Jvm.Cond.castable "java/util/ArrayList" "java/lang/Object") ∈ lw_tbl := lw_at lw_m9 25 rfl
theorem in_J2 : ∀ w ∈ wsJ20, w ∈ lw_all := lw_in wsJ20 [124, 120, 122] (by decide +kernel) (by decide +kernel)

/-! java/lang/Enum -/
set_option maxRecDepth 100000
def RJ3 : String := "java/lang/Enum"
abbrev cJ3_compareTo : ByteArray := prog_30_method_15_code
def yJ3_compareTo : MethodName := ⟨RJ3, "compareTo", "(Ljava/lang/Object;)I"⟩
def dkwJ3_compareTo_0 : List UInt8 := [42, 43, 192, 0, 2, 182, 0, 101, 172]
abbrev dktJ3_compareTo_0 : List UInt8 := dkwJ3_compareTo_0 ++ []
theorem dksJ3_compareTo_0 : cJ3_compareTo.data.toList.drop 0 = dktJ3_compareTo_0 := by decide +kernel
theorem dJ3_compareTo_0 : decode cJ3_compareTo 0 = .ok (.aload_n 0, 1) := dk_42 (dk_at dksJ3_compareTo_0 0 rfl rfl)
theorem dJ3_compareTo_1 : decode cJ3_compareTo 1 = .ok (.aload_n 1, 1) := dk_43 (dk_at dksJ3_compareTo_0 1 rfl rfl)
theorem dJ3_compareTo_2 : decode cJ3_compareTo 2 = .ok (.checkcast 2, 3) := dk_192 0 2 (dk_at dksJ3_compareTo_0 2 rfl rfl)
theorem dJ3_compareTo_5 : decode cJ3_compareTo 5 = .ok (.invokevirtual 101, 3) := dk_182 0 101 (dk_at dksJ3_compareTo_0 5 rfl rfl)
theorem dJ3_compareTo_8 : decode cJ3_compareTo 8 = .ok (.ireturn, 1) := dk_172 (dk_at dksJ3_compareTo_0 8 rfl rfl)
abbrev cJ3_compareTo_2 : ByteArray := prog_30_method_8_code
def yJ3_compareTo_2 : MethodName := ⟨RJ3, "compareTo", "(Ljava/lang/Enum;)I"⟩
def dkwJ3_compareTo_2_1 : List UInt8 := [165, 0, 11, 187, 0, 36, 89, 183, 0, 38, 191, 45, 180, 0, 7, 44, 180, 0, 7, 100, 172]
abbrev dktJ3_compareTo_2_1 : List UInt8 := dkwJ3_compareTo_2_1 ++ []
def dkwJ3_compareTo_2_0 : List UInt8 := [43, 77, 42, 78, 45, 182, 0, 29, 44, 182, 0, 29, 165, 0, 22, 45, 182, 0, 33, 44, 182, 0, 33]
abbrev dktJ3_compareTo_2_0 : List UInt8 := dkwJ3_compareTo_2_0 ++ dktJ3_compareTo_2_1
theorem dksJ3_compareTo_2_0 : cJ3_compareTo_2.data.toList.drop 0 = dktJ3_compareTo_2_0 := by decide +kernel
theorem dksJ3_compareTo_2_1 : cJ3_compareTo_2.data.toList.drop 23 = dktJ3_compareTo_2_1 := dk_seg dksJ3_compareTo_2_0 23 rfl rfl
theorem dJ3_compareTo_2_0 : decode cJ3_compareTo_2 0 = .ok (.aload_n 1, 1) := dk_43 (dk_at dksJ3_compareTo_2_0 0 rfl rfl)
theorem dJ3_compareTo_2_1 : decode cJ3_compareTo_2 1 = .ok (.astore_n 2, 1) := dk_77 (dk_at dksJ3_compareTo_2_0 1 rfl rfl)
theorem dJ3_compareTo_2_2 : decode cJ3_compareTo_2 2 = .ok (.aload_n 0, 1) := dk_42 (dk_at dksJ3_compareTo_2_0 2 rfl rfl)
theorem dJ3_compareTo_2_3 : decode cJ3_compareTo_2 3 = .ok (.astore_n 3, 1) := dk_78 (dk_at dksJ3_compareTo_2_0 3 rfl rfl)
theorem dJ3_compareTo_2_4 : decode cJ3_compareTo_2 4 = .ok (.aload_n 3, 1) := dk_45 (dk_at dksJ3_compareTo_2_0 4 rfl rfl)
theorem dJ3_compareTo_2_5 : decode cJ3_compareTo_2 5 = .ok (.invokevirtual 29, 3) := dk_182 0 29 (dk_at dksJ3_compareTo_2_0 5 rfl rfl)
theorem dJ3_compareTo_2_8 : decode cJ3_compareTo_2 8 = .ok (.aload_n 2, 1) := dk_44 (dk_at dksJ3_compareTo_2_0 8 rfl rfl)
theorem dJ3_compareTo_2_9 : decode cJ3_compareTo_2 9 = .ok (.invokevirtual 29, 3) := dk_182 0 29 (dk_at dksJ3_compareTo_2_0 9 rfl rfl)
theorem dJ3_compareTo_2_12 : decode cJ3_compareTo_2 12 = .ok (.if_acmp .eq 22, 3) := dk_165 0 22 (dk_at dksJ3_compareTo_2_0 12 rfl rfl)
theorem dJ3_compareTo_2_15 : decode cJ3_compareTo_2 15 = .ok (.aload_n 3, 1) := dk_45 (dk_at dksJ3_compareTo_2_0 15 rfl rfl)
theorem dJ3_compareTo_2_16 : decode cJ3_compareTo_2 16 = .ok (.invokevirtual 33, 3) := dk_182 0 33 (dk_at dksJ3_compareTo_2_0 16 rfl rfl)
theorem dJ3_compareTo_2_19 : decode cJ3_compareTo_2 19 = .ok (.aload_n 2, 1) := dk_44 (dk_at dksJ3_compareTo_2_0 19 rfl rfl)
theorem dJ3_compareTo_2_20 : decode cJ3_compareTo_2 20 = .ok (.invokevirtual 33, 3) := dk_182 0 33 (dk_at dksJ3_compareTo_2_0 20 rfl rfl)
theorem dJ3_compareTo_2_23 : decode cJ3_compareTo_2 23 = .ok (.if_acmp .eq 11, 3) := dk_165 0 11 (dk_at dksJ3_compareTo_2_1 0 rfl rfl)
theorem dJ3_compareTo_2_26 : decode cJ3_compareTo_2 26 = .ok (.new 36, 3) := dk_187 0 36 (dk_at dksJ3_compareTo_2_1 3 rfl rfl)
theorem dJ3_compareTo_2_29 : decode cJ3_compareTo_2 29 = .ok (.dup, 1) := dk_89 (dk_at dksJ3_compareTo_2_1 6 rfl rfl)
theorem dJ3_compareTo_2_30 : decode cJ3_compareTo_2 30 = .ok (.invokespecial 38, 3) := dk_183 0 38 (dk_at dksJ3_compareTo_2_1 7 rfl rfl)
theorem dJ3_compareTo_2_33 : decode cJ3_compareTo_2 33 = .ok (.athrow, 1) := dk_191 (dk_at dksJ3_compareTo_2_1 10 rfl rfl)
theorem dJ3_compareTo_2_34 : decode cJ3_compareTo_2 34 = .ok (.aload_n 3, 1) := dk_45 (dk_at dksJ3_compareTo_2_1 11 rfl rfl)
theorem dJ3_compareTo_2_35 : decode cJ3_compareTo_2 35 = .ok (.getfield 7, 3) := dk_180 0 7 (dk_at dksJ3_compareTo_2_1 12 rfl rfl)
theorem dJ3_compareTo_2_38 : decode cJ3_compareTo_2 38 = .ok (.aload_n 2, 1) := dk_44 (dk_at dksJ3_compareTo_2_1 15 rfl rfl)
theorem dJ3_compareTo_2_39 : decode cJ3_compareTo_2 39 = .ok (.getfield 7, 3) := dk_180 0 7 (dk_at dksJ3_compareTo_2_1 16 rfl rfl)
theorem dJ3_compareTo_2_42 : decode cJ3_compareTo_2 42 = .ok (.isub, 1) := dk_100 (dk_at dksJ3_compareTo_2_1 19 rfl rfl)
theorem dJ3_compareTo_2_43 : decode cJ3_compareTo_2 43 = .ok (.ireturn, 1) := dk_172 (dk_at dksJ3_compareTo_2_1 20 rfl rfl)
abbrev cJ3_getDeclaringClass : ByteArray := prog_30_method_9_code
def yJ3_getDeclaringClass : MethodName := ⟨RJ3, "getDeclaringClass", "()Ljava/lang/Class;"⟩
def dkwJ3_getDeclaringClass_0 : List UInt8 := [42, 182, 0, 29, 76, 43, 182, 0, 39, 77, 44, 18, 2, 166, 0, 7, 43, 167, 0, 4, 44, 176]
abbrev dktJ3_getDeclaringClass_0 : List UInt8 := dkwJ3_getDeclaringClass_0 ++ []
theorem dksJ3_getDeclaringClass_0 : cJ3_getDeclaringClass.data.toList.drop 0 = dktJ3_getDeclaringClass_0 := by decide +kernel
theorem dJ3_getDeclaringClass_0 : decode cJ3_getDeclaringClass 0 = .ok (.aload_n 0, 1) := dk_42 (dk_at dksJ3_getDeclaringClass_0 0 rfl rfl)
theorem dJ3_getDeclaringClass_1 : decode cJ3_getDeclaringClass 1 = .ok (.invokevirtual 29, 3) := dk_182 0 29 (dk_at dksJ3_getDeclaringClass_0 1 rfl rfl)
theorem dJ3_getDeclaringClass_4 : decode cJ3_getDeclaringClass 4 = .ok (.astore_n 1, 1) := dk_76 (dk_at dksJ3_getDeclaringClass_0 4 rfl rfl)
theorem dJ3_getDeclaringClass_5 : decode cJ3_getDeclaringClass 5 = .ok (.aload_n 1, 1) := dk_43 (dk_at dksJ3_getDeclaringClass_0 5 rfl rfl)
theorem dJ3_getDeclaringClass_6 : decode cJ3_getDeclaringClass 6 = .ok (.invokevirtual 39, 3) := dk_182 0 39 (dk_at dksJ3_getDeclaringClass_0 6 rfl rfl)
theorem dJ3_getDeclaringClass_9 : decode cJ3_getDeclaringClass 9 = .ok (.astore_n 2, 1) := dk_77 (dk_at dksJ3_getDeclaringClass_0 9 rfl rfl)
theorem dJ3_getDeclaringClass_10 : decode cJ3_getDeclaringClass 10 = .ok (.aload_n 2, 1) := dk_44 (dk_at dksJ3_getDeclaringClass_0 10 rfl rfl)
theorem dJ3_getDeclaringClass_11 : decode cJ3_getDeclaringClass 11 = .ok (.ldc 2, 2) := dk_18 2 (dk_at dksJ3_getDeclaringClass_0 11 rfl rfl)
theorem dJ3_getDeclaringClass_13 : decode cJ3_getDeclaringClass 13 = .ok (.if_acmp .ne 7, 3) := dk_166 0 7 (dk_at dksJ3_getDeclaringClass_0 13 rfl rfl)
theorem dJ3_getDeclaringClass_16 : decode cJ3_getDeclaringClass 16 = .ok (.aload_n 1, 1) := dk_43 (dk_at dksJ3_getDeclaringClass_0 16 rfl rfl)
theorem dJ3_getDeclaringClass_17 : decode cJ3_getDeclaringClass 17 = .ok (.goto 4, 3) := dk_167 0 4 (dk_at dksJ3_getDeclaringClass_0 17 rfl rfl)
theorem dJ3_getDeclaringClass_20 : decode cJ3_getDeclaringClass 20 = .ok (.aload_n 2, 1) := dk_44 (dk_at dksJ3_getDeclaringClass_0 20 rfl rfl)
theorem dJ3_getDeclaringClass_21 : decode cJ3_getDeclaringClass 21 = .ok (.areturn, 1) := dk_176 (dk_at dksJ3_getDeclaringClass_0 21 rfl rfl)
theorem q45 : (Jvm.Cond.initialized "java/lang/Enum") ∈ lw_all := lw_g (lw_at lw_m1 6 rfl) rfl
theorem q1199 : (Jvm.Cond.instanceMethod ({ cls := "java/lang/Enum", name := "compareTo", desc := "(Ljava/lang/Object;)I" } : Jvm.MethodName)) ∈ lw_all := lw_g (lw_at lw_m5 200 rfl) rfl
theorem q1200 : (Jvm.Cond.publicMethod ({ cls := "java/lang/Enum", name := "compareTo", desc := "(Ljava/lang/Object;)I" } : Jvm.MethodName)) ∈ lw_tbl := lw_at lw_m5 201 rfl
theorem q1201 : (Jvm.Cond.code ({ cls := "java/lang/Enum", name := "compareTo", desc := "(Ljava/lang/Object;)I" } : Jvm.MethodName) prog_30_method_15_code (2 : Nat) (Option.some Jvm.ClassFile.FieldType.int)) ∈ lw_all := lw_g (lw_at lw_m5 202 rfl) rfl
theorem q1202 : (Jvm.Cond.classLink "java/lang/Enum" (2 : Nat) "java/lang/Enum") ∈ lw_all := lw_g (lw_at lw_m5 203 rfl) rfl
theorem q1203 : (Jvm.Cond.methodLink "java/lang/Enum" (101 : Nat) ({ cls := "java/lang/Enum", name := "compareTo", desc := "(Ljava/lang/Enum;)I" } : Jvm.MethodName)) ∈ lw_all := lw_g (lw_at lw_m5 204 rfl) rfl
theorem q1204 : (Jvm.Cond.instanceMethod ({ cls := "java/lang/Enum", name := "compareTo", desc := "(Ljava/lang/Enum;)I" } : Jvm.MethodName)) ∈ lw_all := lw_g (lw_at lw_m5 205 rfl) rfl
theorem q1205 : (Jvm.Cond.sameMethod "java/lang/Enum" "java/lang/Enum" "compareTo" "(Ljava/lang/Enum;)I") ∈ lw_all := lw_g (lw_at lw_m5 206 rfl) rfl
theorem q1210 : (Jvm.Cond.code ({ cls := "java/lang/Enum", name := "compareTo", desc := "(Ljava/lang/Enum;)I" } : Jvm.MethodName) prog_30_method_8_code (4 : Nat) (Option.some Jvm.ClassFile.FieldType.int)) ∈ lw_all := lw_g (lw_at lw_m5 211 rfl) rfl
theorem q1211 : (Jvm.Cond.methodLink "java/lang/Enum" (29 : Nat) ({ cls := "java/lang/Object", name := "getClass", desc := "()Ljava/lang/Class;" } : Jvm.MethodName)) ∈ lw_all := lw_g (lw_at lw_m5 212 rfl) rfl
theorem q1212 : (Jvm.Cond.methodLink "java/lang/Enum" (33 : Nat) ({ cls := "java/lang/Enum", name := "getDeclaringClass", desc := "()Ljava/lang/Class;" } : Jvm.MethodName)) ∈ lw_all := lw_g (lw_at lw_m5 213 rfl) rfl
theorem q1213 : (Jvm.Cond.instanceMethod ({ cls := "java/lang/Enum", name := "getDeclaringClass", desc := "()Ljava/lang/Class;" } : Jvm.MethodName)) ∈ lw_all := lw_g (lw_at lw_m5 214 rfl) rfl
theorem q1214 : (Jvm.Cond.sameMethod "java/lang/Enum" "java/lang/Enum" "getDeclaringClass" "()Ljava/lang/Class;") ∈ lw_all := lw_g (lw_at lw_m5 215 rfl) rfl
theorem q1219 : (Jvm.Cond.code ({ cls := "java/lang/Enum", name := "getDeclaringClass", desc := "()Ljava/lang/Class;" } : Jvm.MethodName) prog_30_method_9_code (3 : Nat) (Option.some (Jvm.ClassFile.FieldType.object "java/lang/Class"))) ∈ lw_all := lw_g (lw_at lw_m5 220 rfl) rfl
theorem q2031 : (Jvm.Cond.fieldLink "java/lang/Enum" (7 : Nat) "java/lang/Enum" "ordinal" "I") ∈ lw_all := lw_g (lw_at lw_m9 72 rfl) rfl

/-! jdk/internal/util/ArraysSupport -/
set_option maxRecDepth 100000
def RJ4 : String := "jdk/internal/util/ArraysSupport"
abbrev cJ4_newLength : ByteArray := prog_63_method_27_code
def yJ4_newLength : MethodName := ⟨RJ4, "newLength", "(III)I"⟩
def dkwJ4_newLength_1 : List UInt8 := [184, 0, 201, 172]
abbrev dktJ4_newLength_1 : List UInt8 := dkwJ4_newLength_1 ++ []
def dkwJ4_newLength_0 : List UInt8 := [26, 27, 28, 184, 0, 194, 96, 62, 3, 29, 162, 0, 11, 29, 18, 200, 163, 0, 5, 29, 172, 26, 27]
abbrev dktJ4_newLength_0 : List UInt8 := dkwJ4_newLength_0 ++ dktJ4_newLength_1
theorem dksJ4_newLength_0 : cJ4_newLength.data.toList.drop 0 = dktJ4_newLength_0 := by decide +kernel
theorem dksJ4_newLength_1 : cJ4_newLength.data.toList.drop 23 = dktJ4_newLength_1 := dk_seg dksJ4_newLength_0 23 rfl rfl
theorem dJ4_newLength_0 : decode cJ4_newLength 0 = .ok (.iload_n 0, 1) := dk_26 (dk_at dksJ4_newLength_0 0 rfl rfl)
theorem dJ4_newLength_1 : decode cJ4_newLength 1 = .ok (.iload_n 1, 1) := dk_27 (dk_at dksJ4_newLength_0 1 rfl rfl)
theorem dJ4_newLength_2 : decode cJ4_newLength 2 = .ok (.iload_n 2, 1) := dk_28 (dk_at dksJ4_newLength_0 2 rfl rfl)
theorem dJ4_newLength_3 : decode cJ4_newLength 3 = .ok (.invokestatic 194, 3) := dk_184 0 194 (dk_at dksJ4_newLength_0 3 rfl rfl)
theorem dJ4_newLength_6 : decode cJ4_newLength 6 = .ok (.iadd, 1) := dk_96 (dk_at dksJ4_newLength_0 6 rfl rfl)
theorem dJ4_newLength_7 : decode cJ4_newLength 7 = .ok (.istore_n 3, 1) := dk_62 (dk_at dksJ4_newLength_0 7 rfl rfl)
theorem dJ4_newLength_8 : decode cJ4_newLength 8 = .ok (.iconst 0, 1) := dk_3 (dk_at dksJ4_newLength_0 8 rfl rfl)
theorem dJ4_newLength_9 : decode cJ4_newLength 9 = .ok (.iload_n 3, 1) := dk_29 (dk_at dksJ4_newLength_0 9 rfl rfl)
theorem dJ4_newLength_10 : decode cJ4_newLength 10 = .ok (.if_icmp .ge 11, 3) := dk_162 0 11 (dk_at dksJ4_newLength_0 10 rfl rfl)
theorem dJ4_newLength_13 : decode cJ4_newLength 13 = .ok (.iload_n 3, 1) := dk_29 (dk_at dksJ4_newLength_0 13 rfl rfl)
theorem dJ4_newLength_14 : decode cJ4_newLength 14 = .ok (.ldc 200, 2) := dk_18 200 (dk_at dksJ4_newLength_0 14 rfl rfl)
theorem dJ4_newLength_16 : decode cJ4_newLength 16 = .ok (.if_icmp .gt 5, 3) := dk_163 0 5 (dk_at dksJ4_newLength_0 16 rfl rfl)
theorem dJ4_newLength_19 : decode cJ4_newLength 19 = .ok (.iload_n 3, 1) := dk_29 (dk_at dksJ4_newLength_0 19 rfl rfl)
theorem dJ4_newLength_20 : decode cJ4_newLength 20 = .ok (.ireturn, 1) := dk_172 (dk_at dksJ4_newLength_0 20 rfl rfl)
theorem dJ4_newLength_21 : decode cJ4_newLength 21 = .ok (.iload_n 0, 1) := dk_26 (dk_at dksJ4_newLength_0 21 rfl rfl)
theorem dJ4_newLength_22 : decode cJ4_newLength 22 = .ok (.iload_n 1, 1) := dk_27 (dk_at dksJ4_newLength_0 22 rfl rfl)
theorem dJ4_newLength_23 : decode cJ4_newLength 23 = .ok (.invokestatic 201, 3) := dk_184 0 201 (dk_at dksJ4_newLength_1 0 rfl rfl)
theorem dJ4_newLength_26 : decode cJ4_newLength 26 = .ok (.ireturn, 1) := dk_172 (dk_at dksJ4_newLength_1 3 rfl rfl)
abbrev cJ4_hugeLength : ByteArray := prog_63_method_28_code
def yJ4_hugeLength : MethodName := ⟨RJ4, "hugeLength", "(II)I"⟩
def dkwJ4_hugeLength_2 : List UInt8 := [191, 28, 18, 200, 163, 0, 6, 18, 200, 172, 28, 172]
abbrev dktJ4_hugeLength_2 : List UInt8 := dkwJ4_hugeLength_2 ++ []
def dkwJ4_hugeLength_1 : List UInt8 := [26, 182, 0, 98, 18, 208, 182, 0, 94, 27, 182, 0, 98, 18, 210, 182, 0, 94, 182, 0, 101, 183, 0, 212]
abbrev dktJ4_hugeLength_1 : List UInt8 := dkwJ4_hugeLength_1 ++ dktJ4_hugeLength_2
def dkwJ4_hugeLength_0 : List UInt8 := [26, 27, 96, 61, 28, 156, 0, 44, 187, 0, 204, 89, 187, 0, 89, 89, 183, 0, 91, 18, 206, 182, 0, 94]
abbrev dktJ4_hugeLength_0 : List UInt8 := dkwJ4_hugeLength_0 ++ dktJ4_hugeLength_1
theorem dksJ4_hugeLength_0 : cJ4_hugeLength.data.toList.drop 0 = dktJ4_hugeLength_0 := by decide +kernel
theorem dksJ4_hugeLength_1 : cJ4_hugeLength.data.toList.drop 24 = dktJ4_hugeLength_1 := dk_seg dksJ4_hugeLength_0 24 rfl rfl
theorem dksJ4_hugeLength_2 : cJ4_hugeLength.data.toList.drop 48 = dktJ4_hugeLength_2 := dk_seg dksJ4_hugeLength_1 24 rfl rfl
theorem dJ4_hugeLength_0 : decode cJ4_hugeLength 0 = .ok (.iload_n 0, 1) := dk_26 (dk_at dksJ4_hugeLength_0 0 rfl rfl)
theorem dJ4_hugeLength_1 : decode cJ4_hugeLength 1 = .ok (.iload_n 1, 1) := dk_27 (dk_at dksJ4_hugeLength_0 1 rfl rfl)
theorem dJ4_hugeLength_2 : decode cJ4_hugeLength 2 = .ok (.iadd, 1) := dk_96 (dk_at dksJ4_hugeLength_0 2 rfl rfl)
theorem dJ4_hugeLength_3 : decode cJ4_hugeLength 3 = .ok (.istore_n 2, 1) := dk_61 (dk_at dksJ4_hugeLength_0 3 rfl rfl)
theorem dJ4_hugeLength_4 : decode cJ4_hugeLength 4 = .ok (.iload_n 2, 1) := dk_28 (dk_at dksJ4_hugeLength_0 4 rfl rfl)
theorem dJ4_hugeLength_5 : decode cJ4_hugeLength 5 = .ok (.ifCond .ge 44, 3) := dk_156 0 44 (dk_at dksJ4_hugeLength_0 5 rfl rfl)
theorem dJ4_hugeLength_8 : decode cJ4_hugeLength 8 = .ok (.new 204, 3) := dk_187 0 204 (dk_at dksJ4_hugeLength_0 8 rfl rfl)
theorem dJ4_hugeLength_11 : decode cJ4_hugeLength 11 = .ok (.dup, 1) := dk_89 (dk_at dksJ4_hugeLength_0 11 rfl rfl)
theorem dJ4_hugeLength_12 : decode cJ4_hugeLength 12 = .ok (.new 89, 3) := dk_187 0 89 (dk_at dksJ4_hugeLength_0 12 rfl rfl)
theorem dJ4_hugeLength_15 : decode cJ4_hugeLength 15 = .ok (.dup, 1) := dk_89 (dk_at dksJ4_hugeLength_0 15 rfl rfl)
theorem dJ4_hugeLength_16 : decode cJ4_hugeLength 16 = .ok (.invokespecial 91, 3) := dk_183 0 91 (dk_at dksJ4_hugeLength_0 16 rfl rfl)
theorem dJ4_hugeLength_19 : decode cJ4_hugeLength 19 = .ok (.ldc 206, 2) := dk_18 206 (dk_at dksJ4_hugeLength_0 19 rfl rfl)
theorem dJ4_hugeLength_21 : decode cJ4_hugeLength 21 = .ok (.invokevirtual 94, 3) := dk_182 0 94 (dk_at dksJ4_hugeLength_0 21 rfl rfl)
theorem dJ4_hugeLength_24 : decode cJ4_hugeLength 24 = .ok (.iload_n 0, 1) := dk_26 (dk_at dksJ4_hugeLength_1 0 rfl rfl)
theorem dJ4_hugeLength_25 : decode cJ4_hugeLength 25 = .ok (.invokevirtual 98, 3) := dk_182 0 98 (dk_at dksJ4_hugeLength_1 1 rfl rfl)
theorem dJ4_hugeLength_28 : decode cJ4_hugeLength 28 = .ok (.ldc 208, 2) := dk_18 208 (dk_at dksJ4_hugeLength_1 4 rfl rfl)
theorem dJ4_hugeLength_30 : decode cJ4_hugeLength 30 = .ok (.invokevirtual 94, 3) := dk_182 0 94 (dk_at dksJ4_hugeLength_1 6 rfl rfl)
theorem dJ4_hugeLength_33 : decode cJ4_hugeLength 33 = .ok (.iload_n 1, 1) := dk_27 (dk_at dksJ4_hugeLength_1 9 rfl rfl)
theorem dJ4_hugeLength_34 : decode cJ4_hugeLength 34 = .ok (.invokevirtual 98, 3) := dk_182 0 98 (dk_at dksJ4_hugeLength_1 10 rfl rfl)
theorem dJ4_hugeLength_37 : decode cJ4_hugeLength 37 = .ok (.ldc 210, 2) := dk_18 210 (dk_at dksJ4_hugeLength_1 13 rfl rfl)
theorem dJ4_hugeLength_39 : decode cJ4_hugeLength 39 = .ok (.invokevirtual 94, 3) := dk_182 0 94 (dk_at dksJ4_hugeLength_1 15 rfl rfl)
theorem dJ4_hugeLength_42 : decode cJ4_hugeLength 42 = .ok (.invokevirtual 101, 3) := dk_182 0 101 (dk_at dksJ4_hugeLength_1 18 rfl rfl)
theorem dJ4_hugeLength_45 : decode cJ4_hugeLength 45 = .ok (.invokespecial 212, 3) := dk_183 0 212 (dk_at dksJ4_hugeLength_1 21 rfl rfl)
theorem dJ4_hugeLength_48 : decode cJ4_hugeLength 48 = .ok (.athrow, 1) := dk_191 (dk_at dksJ4_hugeLength_2 0 rfl rfl)
theorem dJ4_hugeLength_49 : decode cJ4_hugeLength 49 = .ok (.iload_n 2, 1) := dk_28 (dk_at dksJ4_hugeLength_2 1 rfl rfl)
theorem dJ4_hugeLength_50 : decode cJ4_hugeLength 50 = .ok (.ldc 200, 2) := dk_18 200 (dk_at dksJ4_hugeLength_2 2 rfl rfl)
theorem dJ4_hugeLength_52 : decode cJ4_hugeLength 52 = .ok (.if_icmp .gt 6, 3) := dk_163 0 6 (dk_at dksJ4_hugeLength_2 4 rfl rfl)
theorem dJ4_hugeLength_55 : decode cJ4_hugeLength 55 = .ok (.ldc 200, 2) := dk_18 200 (dk_at dksJ4_hugeLength_2 7 rfl rfl)
theorem dJ4_hugeLength_57 : decode cJ4_hugeLength 57 = .ok (.ireturn, 1) := dk_172 (dk_at dksJ4_hugeLength_2 9 rfl rfl)
theorem dJ4_hugeLength_58 : decode cJ4_hugeLength 58 = .ok (.iload_n 2, 1) := dk_28 (dk_at dksJ4_hugeLength_2 10 rfl rfl)
theorem dJ4_hugeLength_59 : decode cJ4_hugeLength 59 = .ok (.ireturn, 1) := dk_172 (dk_at dksJ4_hugeLength_2 11 rfl rfl)
theorem q48 : (Jvm.Cond.initialized "jdk/internal/util/ArraysSupport") ∈ lw_all := lw_g (lw_at lw_m1 9 rfl) rfl
theorem q542 : (Jvm.Cond.static ({ cls := "jdk/internal/util/ArraysSupport", name := "newLength", desc := "(III)I" } : Jvm.MethodName)) ∈ lw_all := lw_g (lw_at lw_m3 23 rfl) rfl
theorem q543 : (Jvm.Cond.code ({ cls := "jdk/internal/util/ArraysSupport", name := "newLength", desc := "(III)I" } : Jvm.MethodName) prog_63_method_27_code (4 : Nat) (Option.some Jvm.ClassFile.FieldType.int)) ∈ lw_all := lw_g (lw_at lw_m3 24 rfl) rfl
theorem q544 : (Jvm.Cond.methodLink "jdk/internal/util/ArraysSupport" (194 : Nat) ({ cls := "java/lang/Math", name := "max", desc := "(II)I" } : Jvm.MethodName)) ∈ lw_all := lw_g (lw_at lw_m3 25 rfl) rfl
theorem q547 : (Jvm.Cond.constant "jdk/internal/util/ArraysSupport" (200 : Nat) (2147483639 : Int32)) ∈ lw_all := lw_g (lw_at lw_m3 28 rfl) rfl
theorem q548 : (Jvm.Cond.methodLink "jdk/internal/util/ArraysSupport" (201 : Nat) ({ cls := "jdk/internal/util/ArraysSupport", name := "hugeLength", desc := "(II)I" } : Jvm.MethodName)) ∈ lw_all := lw_g (lw_at lw_m3 29 rfl) rfl
theorem q549 : (Jvm.Cond.static ({ cls := "jdk/internal/util/ArraysSupport", name := "hugeLength", desc := "(II)I" } : Jvm.MethodName)) ∈ lw_all := lw_g (lw_at lw_m3 30 rfl) rfl
theorem q550 : (Jvm.Cond.code ({ cls := "jdk/internal/util/ArraysSupport", name := "hugeLength", desc := "(II)I" } : Jvm.MethodName) prog_63_method_28_code (3 : Nat) (Option.some Jvm.ClassFile.FieldType.int)) ∈ lw_all := lw_g (lw_at lw_m3 31 rfl) rfl

/-! java/lang/Math -/
set_option maxRecDepth 100000
def RJ5 : String := "java/lang/Math"
abbrev cJ5_max : ByteArray := prog_38_method_65_code
def yJ5_max : MethodName := ⟨RJ5, "max", "(II)I"⟩
def dkwJ5_max_0 : List UInt8 := [26, 27, 161, 0, 7, 26, 167, 0, 4, 27, 172]
abbrev dktJ5_max_0 : List UInt8 := dkwJ5_max_0 ++ []
theorem dksJ5_max_0 : cJ5_max.data.toList.drop 0 = dktJ5_max_0 := by decide +kernel
theorem dJ5_max_0 : decode cJ5_max 0 = .ok (.iload_n 0, 1) := dk_26 (dk_at dksJ5_max_0 0 rfl rfl)
theorem dJ5_max_1 : decode cJ5_max 1 = .ok (.iload_n 1, 1) := dk_27 (dk_at dksJ5_max_0 1 rfl rfl)
theorem dJ5_max_2 : decode cJ5_max 2 = .ok (.if_icmp .lt 7, 3) := dk_161 0 7 (dk_at dksJ5_max_0 2 rfl rfl)
theorem dJ5_max_5 : decode cJ5_max 5 = .ok (.iload_n 0, 1) := dk_26 (dk_at dksJ5_max_0 5 rfl rfl)
theorem dJ5_max_6 : decode cJ5_max 6 = .ok (.goto 4, 3) := dk_167 0 4 (dk_at dksJ5_max_0 6 rfl rfl)
theorem dJ5_max_9 : decode cJ5_max 9 = .ok (.iload_n 1, 1) := dk_27 (dk_at dksJ5_max_0 9 rfl rfl)
theorem dJ5_max_10 : decode cJ5_max 10 = .ok (.ireturn, 1) := dk_172 (dk_at dksJ5_max_0 10 rfl rfl)
abbrev cJ5_min : ByteArray := prog_38_method_69_code
def yJ5_min : MethodName := ⟨RJ5, "min", "(II)I"⟩
def dkwJ5_min_0 : List UInt8 := [26, 27, 163, 0, 7, 26, 167, 0, 4, 27, 172]
abbrev dktJ5_min_0 : List UInt8 := dkwJ5_min_0 ++ []
theorem dksJ5_min_0 : cJ5_min.data.toList.drop 0 = dktJ5_min_0 := by decide +kernel
theorem dJ5_min_0 : decode cJ5_min 0 = .ok (.iload_n 0, 1) := dk_26 (dk_at dksJ5_min_0 0 rfl rfl)
theorem dJ5_min_1 : decode cJ5_min 1 = .ok (.iload_n 1, 1) := dk_27 (dk_at dksJ5_min_0 1 rfl rfl)
theorem dJ5_min_2 : decode cJ5_min 2 = .ok (.if_icmp .gt 7, 3) := dk_163 0 7 (dk_at dksJ5_min_0 2 rfl rfl)
theorem dJ5_min_5 : decode cJ5_min 5 = .ok (.iload_n 0, 1) := dk_26 (dk_at dksJ5_min_0 5 rfl rfl)
theorem dJ5_min_6 : decode cJ5_min 6 = .ok (.goto 4, 3) := dk_167 0 4 (dk_at dksJ5_min_0 6 rfl rfl)
theorem dJ5_min_9 : decode cJ5_min 9 = .ok (.iload_n 1, 1) := dk_27 (dk_at dksJ5_min_0 9 rfl rfl)
theorem dJ5_min_10 : decode cJ5_min 10 = .ok (.ireturn, 1) := dk_172 (dk_at dksJ5_min_0 10 rfl rfl)
abbrev cJ5_abs : ByteArray := prog_38_method_59_code
def yJ5_abs : MethodName := ⟨RJ5, "abs", "(I)I"⟩
def dkwJ5_abs_0 : List UInt8 := [26, 156, 0, 8, 26, 116, 167, 0, 4, 26, 172]
abbrev dktJ5_abs_0 : List UInt8 := dkwJ5_abs_0 ++ []
theorem dksJ5_abs_0 : cJ5_abs.data.toList.drop 0 = dktJ5_abs_0 := by decide +kernel
theorem dJ5_abs_0 : decode cJ5_abs 0 = .ok (.iload_n 0, 1) := dk_26 (dk_at dksJ5_abs_0 0 rfl rfl)
theorem dJ5_abs_1 : decode cJ5_abs 1 = .ok (.ifCond .ge 8, 3) := dk_156 0 8 (dk_at dksJ5_abs_0 1 rfl rfl)
theorem dJ5_abs_4 : decode cJ5_abs 4 = .ok (.iload_n 0, 1) := dk_26 (dk_at dksJ5_abs_0 4 rfl rfl)
theorem dJ5_abs_5 : decode cJ5_abs 5 = .ok (.ineg, 1) := dk_116 (dk_at dksJ5_abs_0 5 rfl rfl)
theorem dJ5_abs_6 : decode cJ5_abs 6 = .ok (.goto 4, 3) := dk_167 0 4 (dk_at dksJ5_abs_0 6 rfl rfl)
theorem dJ5_abs_9 : decode cJ5_abs 9 = .ok (.iload_n 0, 1) := dk_26 (dk_at dksJ5_abs_0 9 rfl rfl)
theorem dJ5_abs_10 : decode cJ5_abs 10 = .ok (.ireturn, 1) := dk_172 (dk_at dksJ5_abs_0 10 rfl rfl)
theorem q49 : (Jvm.Cond.initialized "java/lang/Math") ∈ lw_all := lw_g (lw_at lw_m1 10 rfl) rfl
theorem q545 : (Jvm.Cond.static ({ cls := "java/lang/Math", name := "max", desc := "(II)I" } : Jvm.MethodName)) ∈ lw_all := lw_g (lw_at lw_m3 26 rfl) rfl
theorem q546 : (Jvm.Cond.code ({ cls := "java/lang/Math", name := "max", desc := "(II)I" } : Jvm.MethodName) prog_38_method_65_code (2 : Nat) (Option.some Jvm.ClassFile.FieldType.int)) ∈ lw_all := lw_g (lw_at lw_m3 27 rfl) rfl
theorem q596 : (Jvm.Cond.static ({ cls := "java/lang/Math", name := "min", desc := "(II)I" } : Jvm.MethodName)) ∈ lw_all := lw_g (lw_at lw_m3 77 rfl) rfl
theorem q597 : (Jvm.Cond.code ({ cls := "java/lang/Math", name := "min", desc := "(II)I" } : Jvm.MethodName) prog_38_method_69_code (2 : Nat) (Option.some Jvm.ClassFile.FieldType.int)) ∈ lw_all := lw_g (lw_at lw_m3 78 rfl) rfl
theorem q941 : (Jvm.Cond.static ({ cls := "java/lang/Math", name := "abs", desc := "(I)I" } : Jvm.MethodName)) ∈ lw_all := lw_g (lw_at lw_m4 182 rfl) rfl
theorem q942 : (Jvm.Cond.code ({ cls := "java/lang/Math", name := "abs", desc := "(I)I" } : Jvm.MethodName) prog_38_method_59_code (1 : Nat) (Option.some Jvm.ClassFile.FieldType.int)) ∈ lw_all := lw_g (lw_at lw_m4 183 rfl) rfl

/-! java/util/Arrays -/
set_option maxRecDepth 100000
def RJ6 : String := "java/util/Arrays"
abbrev cJ6_copyOf : ByteArray := prog_52_method_119_code
def yJ6_copyOf : MethodName := ⟨RJ6, "copyOf", "([Ljava/lang/Object;I)[Ljava/lang/Object;"⟩
def dkwJ6_copyOf_0 : List UInt8 := [42, 27, 42, 182, 0, 86, 184, 1, 44, 176]
abbrev dktJ6_copyOf_0 : List UInt8 := dkwJ6_copyOf_0 ++ []
theorem dksJ6_copyOf_0 : cJ6_copyOf.data.toList.drop 0 = dktJ6_copyOf_0 := by decide +kernel
theorem dJ6_copyOf_0 : decode cJ6_copyOf 0 = .ok (.aload_n 0, 1) := dk_42 (dk_at dksJ6_copyOf_0 0 rfl rfl)
theorem dJ6_copyOf_1 : decode cJ6_copyOf 1 = .ok (.iload_n 1, 1) := dk_27 (dk_at dksJ6_copyOf_0 1 rfl rfl)
theorem dJ6_copyOf_2 : decode cJ6_copyOf 2 = .ok (.aload_n 0, 1) := dk_42 (dk_at dksJ6_copyOf_0 2 rfl rfl)
theorem dJ6_copyOf_3 : decode cJ6_copyOf 3 = .ok (.invokevirtual 86, 3) := dk_182 0 86 (dk_at dksJ6_copyOf_0 3 rfl rfl)
theorem dJ6_copyOf_6 : decode cJ6_copyOf 6 = .ok (.invokestatic 300, 3) := dk_184 1 44 (dk_at dksJ6_copyOf_0 6 rfl rfl)
theorem dJ6_copyOf_9 : decode cJ6_copyOf 9 = .ok (.areturn, 1) := dk_176 (dk_at dksJ6_copyOf_0 9 rfl rfl)
abbrev cJ6_copyOf_2 : ByteArray := prog_52_method_120_code
def yJ6_copyOf_2 : MethodName := ⟨RJ6, "copyOf", "([Ljava/lang/Object;ILjava/lang/Class;)[Ljava/lang/Object;"⟩
def dkwJ6_copyOf_2_1 : List UInt8 := [78, 42, 3, 45, 3, 42, 190, 27, 184, 1, 48, 184, 0, 150, 45, 176]
abbrev dktJ6_copyOf_2_1 : List UInt8 := dkwJ6_copyOf_2_1 ++ []
def dkwJ6_copyOf_2_0 : List UInt8 := [44, 18, 110, 166, 0, 10, 27, 189, 0, 2, 167, 0, 14, 44, 182, 0, 90, 27, 184, 0, 95, 192, 0, 110]
abbrev dktJ6_copyOf_2_0 : List UInt8 := dkwJ6_copyOf_2_0 ++ dktJ6_copyOf_2_1
theorem dksJ6_copyOf_2_0 : cJ6_copyOf_2.data.toList.drop 0 = dktJ6_copyOf_2_0 := by decide +kernel
theorem dksJ6_copyOf_2_1 : cJ6_copyOf_2.data.toList.drop 24 = dktJ6_copyOf_2_1 := dk_seg dksJ6_copyOf_2_0 24 rfl rfl
theorem dJ6_copyOf_2_0 : decode cJ6_copyOf_2 0 = .ok (.aload_n 2, 1) := dk_44 (dk_at dksJ6_copyOf_2_0 0 rfl rfl)
theorem dJ6_copyOf_2_1 : decode cJ6_copyOf_2 1 = .ok (.ldc 110, 2) := dk_18 110 (dk_at dksJ6_copyOf_2_0 1 rfl rfl)
theorem dJ6_copyOf_2_3 : decode cJ6_copyOf_2 3 = .ok (.if_acmp .ne 10, 3) := dk_166 0 10 (dk_at dksJ6_copyOf_2_0 3 rfl rfl)
theorem dJ6_copyOf_2_6 : decode cJ6_copyOf_2 6 = .ok (.iload_n 1, 1) := dk_27 (dk_at dksJ6_copyOf_2_0 6 rfl rfl)
theorem dJ6_copyOf_2_7 : decode cJ6_copyOf_2 7 = .ok (.anewarray 2, 3) := dk_189 0 2 (dk_at dksJ6_copyOf_2_0 7 rfl rfl)
theorem dJ6_copyOf_2_10 : decode cJ6_copyOf_2 10 = .ok (.goto 14, 3) := dk_167 0 14 (dk_at dksJ6_copyOf_2_0 10 rfl rfl)
theorem dJ6_copyOf_2_13 : decode cJ6_copyOf_2 13 = .ok (.aload_n 2, 1) := dk_44 (dk_at dksJ6_copyOf_2_0 13 rfl rfl)
theorem dJ6_copyOf_2_14 : decode cJ6_copyOf_2 14 = .ok (.invokevirtual 90, 3) := dk_182 0 90 (dk_at dksJ6_copyOf_2_0 14 rfl rfl)
theorem dJ6_copyOf_2_17 : decode cJ6_copyOf_2 17 = .ok (.iload_n 1, 1) := dk_27 (dk_at dksJ6_copyOf_2_0 17 rfl rfl)
theorem dJ6_copyOf_2_18 : decode cJ6_copyOf_2 18 = .ok (.invokestatic 95, 3) := dk_184 0 95 (dk_at dksJ6_copyOf_2_0 18 rfl rfl)
theorem dJ6_copyOf_2_21 : decode cJ6_copyOf_2 21 = .ok (.checkcast 110, 3) := dk_192 0 110 (dk_at dksJ6_copyOf_2_0 21 rfl rfl)
theorem dJ6_copyOf_2_24 : decode cJ6_copyOf_2 24 = .ok (.astore_n 3, 1) := dk_78 (dk_at dksJ6_copyOf_2_1 0 rfl rfl)
theorem dJ6_copyOf_2_25 : decode cJ6_copyOf_2 25 = .ok (.aload_n 0, 1) := dk_42 (dk_at dksJ6_copyOf_2_1 1 rfl rfl)
theorem dJ6_copyOf_2_26 : decode cJ6_copyOf_2 26 = .ok (.iconst 0, 1) := dk_3 (dk_at dksJ6_copyOf_2_1 2 rfl rfl)
theorem dJ6_copyOf_2_27 : decode cJ6_copyOf_2 27 = .ok (.aload_n 3, 1) := dk_45 (dk_at dksJ6_copyOf_2_1 3 rfl rfl)
theorem dJ6_copyOf_2_28 : decode cJ6_copyOf_2 28 = .ok (.iconst 0, 1) := dk_3 (dk_at dksJ6_copyOf_2_1 4 rfl rfl)
theorem dJ6_copyOf_2_29 : decode cJ6_copyOf_2 29 = .ok (.aload_n 0, 1) := dk_42 (dk_at dksJ6_copyOf_2_1 5 rfl rfl)
theorem dJ6_copyOf_2_30 : decode cJ6_copyOf_2 30 = .ok (.arraylength, 1) := dk_190 (dk_at dksJ6_copyOf_2_1 6 rfl rfl)
theorem dJ6_copyOf_2_31 : decode cJ6_copyOf_2 31 = .ok (.iload_n 1, 1) := dk_27 (dk_at dksJ6_copyOf_2_1 7 rfl rfl)
theorem dJ6_copyOf_2_32 : decode cJ6_copyOf_2 32 = .ok (.invokestatic 304, 3) := dk_184 1 48 (dk_at dksJ6_copyOf_2_1 8 rfl rfl)
theorem dJ6_copyOf_2_35 : decode cJ6_copyOf_2 35 = .ok (.invokestatic 150, 3) := dk_184 0 150 (dk_at dksJ6_copyOf_2_1 11 rfl rfl)
theorem dJ6_copyOf_2_38 : decode cJ6_copyOf_2 38 = .ok (.aload_n 3, 1) := dk_45 (dk_at dksJ6_copyOf_2_1 14 rfl rfl)
theorem dJ6_copyOf_2_39 : decode cJ6_copyOf_2 39 = .ok (.areturn, 1) := dk_176 (dk_at dksJ6_copyOf_2_1 15 rfl rfl)
theorem q50 : (Jvm.Cond.initialized "java/util/Arrays") ∈ lw_all := lw_g (lw_at lw_m1 11 rfl) rfl
theorem q552 : (Jvm.Cond.static ({ cls := "java/util/Arrays", name := "copyOf", desc := "([Ljava/lang/Object;I)[Ljava/lang/Object;" } : Jvm.MethodName)) ∈ lw_all := lw_g (lw_at lw_m3 33 rfl) rfl
theorem q553 : (Jvm.Cond.code ({ cls := "java/util/Arrays", name := "copyOf", desc := "([Ljava/lang/Object;I)[Ljava/lang/Object;" } : Jvm.MethodName) prog_52_method_119_code (2 : Nat) (Option.some (Jvm.ClassFile.FieldType.array (Jvm.ClassFile.FieldType.object "java/lang/Object")))) ∈ lw_all := lw_g (lw_at lw_m3 34 rfl) rfl
theorem q554 : (Jvm.Cond.methodLink "java/util/Arrays" (86 : Nat) ({ cls := "java/lang/Object", name := "getClass", desc := "()Ljava/lang/Class;" } : Jvm.MethodName)) ∈ lw_all := lw_g (lw_at lw_m3 35 rfl) rfl
theorem q590 : (Jvm.Cond.methodLink "java/util/Arrays" (300 : Nat) ({ cls := "java/util/Arrays", name := "copyOf", desc := "([Ljava/lang/Object;ILjava/lang/Class;)[Ljava/lang/Object;" } : Jvm.MethodName)) ∈ lw_all := lw_g (lw_at lw_m3 71 rfl) rfl
theorem q591 : (Jvm.Cond.static ({ cls := "java/util/Arrays", name := "copyOf", desc := "([Ljava/lang/Object;ILjava/lang/Class;)[Ljava/lang/Object;" } : Jvm.MethodName)) ∈ lw_all := lw_g (lw_at lw_m3 72 rfl) rfl
theorem q592 : (Jvm.Cond.code ({ cls := "java/util/Arrays", name := "copyOf", desc := "([Ljava/lang/Object;ILjava/lang/Class;)[Ljava/lang/Object;" } : Jvm.MethodName) prog_52_method_120_code (4 : Nat) (Option.some (Jvm.ClassFile.FieldType.array (Jvm.ClassFile.FieldType.object "java/lang/Object")))) ∈ lw_all := lw_g (lw_at lw_m3 73 rfl) rfl
theorem q593 : (Jvm.Cond.classLink "java/util/Arrays" (110 : Nat) "[Ljava/lang/Object;") ∈ lw_all := lw_g (lw_at lw_m3 74 rfl) rfl
theorem q594 : (Jvm.Cond.classLink "java/util/Arrays" (2 : Nat) "java/lang/Object") ∈ lw_all := lw_g (lw_at lw_m3 75 rfl) rfl
theorem q595 : (Jvm.Cond.methodLink "java/util/Arrays" (304 : Nat) ({ cls := "java/lang/Math", name := "min", desc := "(II)I" } : Jvm.MethodName)) ∈ lw_all := lw_g (lw_at lw_m3 76 rfl) rfl
theorem q598 : (Jvm.Cond.methodLink "java/util/Arrays" (150 : Nat) ({ cls := "java/lang/System", name := "arraycopy", desc := "(Ljava/lang/Object;ILjava/lang/Object;II)V" } : Jvm.MethodName)) ∈ lw_all := lw_g (lw_at lw_m3 79 rfl) rfl

/-! java/lang/Throwable -/
set_option maxRecDepth 100000
def RJ7 : String := "java/lang/Throwable"
def TJ7 : u_T := fun k => match k with
  | 0 => ("java/lang/Throwable", "cause", "Ljava/lang/Throwable;", false)
  | 1 => ("java/lang/Throwable", "stackTrace", "[Ljava/lang/StackTraceElement;", false)
  | 2 => ("java/lang/Throwable", "suppressedExceptions", "Ljava/util/List;", false)
  | 3 => ("java/lang/Throwable", "detailMessage", "Ljava/lang/String;", false)
  | _ => ("java/lang/Throwable", "backtrace", "Ljava/lang/Object;", false)
def tyJ7 : Nat → FieldType := fun k => match k with
  | 0 => .object "java/lang/Throwable"
  | 1 => .array (.object "java/lang/StackTraceElement")
  | 2 => .object "java/util/List"
  | 3 => .object "java/lang/String"
  | _ => .object "java/lang/Object"
abbrev wsJ70 : List Cond := u_ws RJ7 TJ7 5
theorem nmJ7 : ∀ a, a < 5 → ∀ b, b < 5 → a ≠ b → (TJ7 a).2.1 ≠ (TJ7 b).2.1 := by decide +kernel
theorem tyJ7_ok : ∀ k, k < 5 → parseFieldDescriptor (TJ7 k).2.2.1 = some (tyJ7 k) := by decide +kernel
abbrev cJ7_init : ByteArray := prog_43_method_1_code
def yJ7_init : MethodName := ⟨RJ7, "<init>", "()V"⟩
def dkwJ7_init_1 : List UInt8 := [182, 0, 27, 87, 177]
abbrev dktJ7_init_1 : List UInt8 := dkwJ7_init_1 ++ []
def dkwJ7_init_0 : List UInt8 := [42, 183, 0, 1, 42, 42, 181, 0, 7, 42, 178, 0, 13, 181, 0, 17, 42, 178, 0, 20, 181, 0, 24, 42]
abbrev dktJ7_init_0 : List UInt8 := dkwJ7_init_0 ++ dktJ7_init_1
theorem dksJ7_init_0 : cJ7_init.data.toList.drop 0 = dktJ7_init_0 := by decide +kernel
theorem dksJ7_init_1 : cJ7_init.data.toList.drop 24 = dktJ7_init_1 := dk_seg dksJ7_init_0 24 rfl rfl
theorem dJ7_init_0 : decode cJ7_init 0 = .ok (.aload_n 0, 1) := dk_42 (dk_at dksJ7_init_0 0 rfl rfl)
theorem dJ7_init_1 : decode cJ7_init 1 = .ok (.invokespecial 1, 3) := dk_183 0 1 (dk_at dksJ7_init_0 1 rfl rfl)
theorem dJ7_init_4 : decode cJ7_init 4 = .ok (.aload_n 0, 1) := dk_42 (dk_at dksJ7_init_0 4 rfl rfl)
theorem dJ7_init_5 : decode cJ7_init 5 = .ok (.aload_n 0, 1) := dk_42 (dk_at dksJ7_init_0 5 rfl rfl)
theorem dJ7_init_6 : decode cJ7_init 6 = .ok (.putfield 7, 3) := dk_181 0 7 (dk_at dksJ7_init_0 6 rfl rfl)
theorem dJ7_init_9 : decode cJ7_init 9 = .ok (.aload_n 0, 1) := dk_42 (dk_at dksJ7_init_0 9 rfl rfl)
theorem dJ7_init_10 : decode cJ7_init 10 = .ok (.getstatic 13, 3) := dk_178 0 13 (dk_at dksJ7_init_0 10 rfl rfl)
theorem dJ7_init_13 : decode cJ7_init 13 = .ok (.putfield 17, 3) := dk_181 0 17 (dk_at dksJ7_init_0 13 rfl rfl)
theorem dJ7_init_16 : decode cJ7_init 16 = .ok (.aload_n 0, 1) := dk_42 (dk_at dksJ7_init_0 16 rfl rfl)
theorem dJ7_init_17 : decode cJ7_init 17 = .ok (.getstatic 20, 3) := dk_178 0 20 (dk_at dksJ7_init_0 17 rfl rfl)
theorem dJ7_init_20 : decode cJ7_init 20 = .ok (.putfield 24, 3) := dk_181 0 24 (dk_at dksJ7_init_0 20 rfl rfl)
theorem dJ7_init_23 : decode cJ7_init 23 = .ok (.aload_n 0, 1) := dk_42 (dk_at dksJ7_init_0 23 rfl rfl)
theorem dJ7_init_24 : decode cJ7_init 24 = .ok (.invokevirtual 27, 3) := dk_182 0 27 (dk_at dksJ7_init_1 0 rfl rfl)
theorem dJ7_init_27 : decode cJ7_init 27 = .ok (.pop, 1) := dk_87 (dk_at dksJ7_init_1 3 rfl rfl)
theorem dJ7_init_28 : decode cJ7_init 28 = .ok (.return_, 1) := dk_177 (dk_at dksJ7_init_1 4 rfl rfl)
abbrev cJ7_init_2 : ByteArray := prog_43_method_2_code
def yJ7_init_2 : MethodName := ⟨RJ7, "<init>", "(Ljava/lang/String;)V"⟩
def dkwJ7_init_2_1 : List UInt8 := [182, 0, 27, 87, 42, 43, 181, 0, 31, 177]
abbrev dktJ7_init_2_1 : List UInt8 := dkwJ7_init_2_1 ++ []
def dkwJ7_init_2_0 : List UInt8 := [42, 183, 0, 1, 42, 42, 181, 0, 7, 42, 178, 0, 13, 181, 0, 17, 42, 178, 0, 20, 181, 0, 24, 42]
abbrev dktJ7_init_2_0 : List UInt8 := dkwJ7_init_2_0 ++ dktJ7_init_2_1
theorem dksJ7_init_2_0 : cJ7_init_2.data.toList.drop 0 = dktJ7_init_2_0 := by decide +kernel
theorem dksJ7_init_2_1 : cJ7_init_2.data.toList.drop 24 = dktJ7_init_2_1 := dk_seg dksJ7_init_2_0 24 rfl rfl
theorem dJ7_init_2_0 : decode cJ7_init_2 0 = .ok (.aload_n 0, 1) := dk_42 (dk_at dksJ7_init_2_0 0 rfl rfl)
theorem dJ7_init_2_1 : decode cJ7_init_2 1 = .ok (.invokespecial 1, 3) := dk_183 0 1 (dk_at dksJ7_init_2_0 1 rfl rfl)
theorem dJ7_init_2_4 : decode cJ7_init_2 4 = .ok (.aload_n 0, 1) := dk_42 (dk_at dksJ7_init_2_0 4 rfl rfl)
theorem dJ7_init_2_5 : decode cJ7_init_2 5 = .ok (.aload_n 0, 1) := dk_42 (dk_at dksJ7_init_2_0 5 rfl rfl)
theorem dJ7_init_2_6 : decode cJ7_init_2 6 = .ok (.putfield 7, 3) := dk_181 0 7 (dk_at dksJ7_init_2_0 6 rfl rfl)
theorem dJ7_init_2_9 : decode cJ7_init_2 9 = .ok (.aload_n 0, 1) := dk_42 (dk_at dksJ7_init_2_0 9 rfl rfl)
theorem dJ7_init_2_10 : decode cJ7_init_2 10 = .ok (.getstatic 13, 3) := dk_178 0 13 (dk_at dksJ7_init_2_0 10 rfl rfl)
theorem dJ7_init_2_13 : decode cJ7_init_2 13 = .ok (.putfield 17, 3) := dk_181 0 17 (dk_at dksJ7_init_2_0 13 rfl rfl)
theorem dJ7_init_2_16 : decode cJ7_init_2 16 = .ok (.aload_n 0, 1) := dk_42 (dk_at dksJ7_init_2_0 16 rfl rfl)
theorem dJ7_init_2_17 : decode cJ7_init_2 17 = .ok (.getstatic 20, 3) := dk_178 0 20 (dk_at dksJ7_init_2_0 17 rfl rfl)
theorem dJ7_init_2_20 : decode cJ7_init_2 20 = .ok (.putfield 24, 3) := dk_181 0 24 (dk_at dksJ7_init_2_0 20 rfl rfl)
theorem dJ7_init_2_23 : decode cJ7_init_2 23 = .ok (.aload_n 0, 1) := dk_42 (dk_at dksJ7_init_2_0 23 rfl rfl)
theorem dJ7_init_2_24 : decode cJ7_init_2 24 = .ok (.invokevirtual 27, 3) := dk_182 0 27 (dk_at dksJ7_init_2_1 0 rfl rfl)
theorem dJ7_init_2_27 : decode cJ7_init_2 27 = .ok (.pop, 1) := dk_87 (dk_at dksJ7_init_2_1 3 rfl rfl)
theorem dJ7_init_2_28 : decode cJ7_init_2 28 = .ok (.aload_n 0, 1) := dk_42 (dk_at dksJ7_init_2_1 4 rfl rfl)
theorem dJ7_init_2_29 : decode cJ7_init_2 29 = .ok (.aload_n 1, 1) := dk_43 (dk_at dksJ7_init_2_1 5 rfl rfl)
theorem dJ7_init_2_30 : decode cJ7_init_2 30 = .ok (.putfield 31, 3) := dk_181 0 31 (dk_at dksJ7_init_2_1 6 rfl rfl)
theorem dJ7_init_2_33 : decode cJ7_init_2 33 = .ok (.return_, 1) := dk_177 (dk_at dksJ7_init_2_1 9 rfl rfl)
abbrev cJ7_init_3 : ByteArray := prog_43_method_3_code
def yJ7_init_3 : MethodName := ⟨RJ7, "<init>", "(Ljava/lang/String;Ljava/lang/Throwable;)V"⟩
def dkwJ7_init_3_1 : List UInt8 := [182, 0, 27, 87, 42, 43, 181, 0, 31, 42, 44, 181, 0, 7, 177]
abbrev dktJ7_init_3_1 : List UInt8 := dkwJ7_init_3_1 ++ []
def dkwJ7_init_3_0 : List UInt8 := [42, 183, 0, 1, 42, 42, 181, 0, 7, 42, 178, 0, 13, 181, 0, 17, 42, 178, 0, 20, 181, 0, 24, 42]
abbrev dktJ7_init_3_0 : List UInt8 := dkwJ7_init_3_0 ++ dktJ7_init_3_1
theorem dksJ7_init_3_0 : cJ7_init_3.data.toList.drop 0 = dktJ7_init_3_0 := by decide +kernel
theorem dksJ7_init_3_1 : cJ7_init_3.data.toList.drop 24 = dktJ7_init_3_1 := dk_seg dksJ7_init_3_0 24 rfl rfl
theorem dJ7_init_3_0 : decode cJ7_init_3 0 = .ok (.aload_n 0, 1) := dk_42 (dk_at dksJ7_init_3_0 0 rfl rfl)
theorem dJ7_init_3_1 : decode cJ7_init_3 1 = .ok (.invokespecial 1, 3) := dk_183 0 1 (dk_at dksJ7_init_3_0 1 rfl rfl)
theorem dJ7_init_3_4 : decode cJ7_init_3 4 = .ok (.aload_n 0, 1) := dk_42 (dk_at dksJ7_init_3_0 4 rfl rfl)
theorem dJ7_init_3_5 : decode cJ7_init_3 5 = .ok (.aload_n 0, 1) := dk_42 (dk_at dksJ7_init_3_0 5 rfl rfl)
theorem dJ7_init_3_6 : decode cJ7_init_3 6 = .ok (.putfield 7, 3) := dk_181 0 7 (dk_at dksJ7_init_3_0 6 rfl rfl)
theorem dJ7_init_3_9 : decode cJ7_init_3 9 = .ok (.aload_n 0, 1) := dk_42 (dk_at dksJ7_init_3_0 9 rfl rfl)
theorem dJ7_init_3_10 : decode cJ7_init_3 10 = .ok (.getstatic 13, 3) := dk_178 0 13 (dk_at dksJ7_init_3_0 10 rfl rfl)
theorem dJ7_init_3_13 : decode cJ7_init_3 13 = .ok (.putfield 17, 3) := dk_181 0 17 (dk_at dksJ7_init_3_0 13 rfl rfl)
theorem dJ7_init_3_16 : decode cJ7_init_3 16 = .ok (.aload_n 0, 1) := dk_42 (dk_at dksJ7_init_3_0 16 rfl rfl)
theorem dJ7_init_3_17 : decode cJ7_init_3 17 = .ok (.getstatic 20, 3) := dk_178 0 20 (dk_at dksJ7_init_3_0 17 rfl rfl)
theorem dJ7_init_3_20 : decode cJ7_init_3 20 = .ok (.putfield 24, 3) := dk_181 0 24 (dk_at dksJ7_init_3_0 20 rfl rfl)
theorem dJ7_init_3_23 : decode cJ7_init_3 23 = .ok (.aload_n 0, 1) := dk_42 (dk_at dksJ7_init_3_0 23 rfl rfl)
theorem dJ7_init_3_24 : decode cJ7_init_3 24 = .ok (.invokevirtual 27, 3) := dk_182 0 27 (dk_at dksJ7_init_3_1 0 rfl rfl)
theorem dJ7_init_3_27 : decode cJ7_init_3 27 = .ok (.pop, 1) := dk_87 (dk_at dksJ7_init_3_1 3 rfl rfl)
theorem dJ7_init_3_28 : decode cJ7_init_3 28 = .ok (.aload_n 0, 1) := dk_42 (dk_at dksJ7_init_3_1 4 rfl rfl)
theorem dJ7_init_3_29 : decode cJ7_init_3 29 = .ok (.aload_n 1, 1) := dk_43 (dk_at dksJ7_init_3_1 5 rfl rfl)
theorem dJ7_init_3_30 : decode cJ7_init_3 30 = .ok (.putfield 31, 3) := dk_181 0 31 (dk_at dksJ7_init_3_1 6 rfl rfl)
theorem dJ7_init_3_33 : decode cJ7_init_3 33 = .ok (.aload_n 0, 1) := dk_42 (dk_at dksJ7_init_3_1 9 rfl rfl)
theorem dJ7_init_3_34 : decode cJ7_init_3 34 = .ok (.aload_n 2, 1) := dk_44 (dk_at dksJ7_init_3_1 10 rfl rfl)
theorem dJ7_init_3_35 : decode cJ7_init_3 35 = .ok (.putfield 7, 3) := dk_181 0 7 (dk_at dksJ7_init_3_1 11 rfl rfl)
theorem dJ7_init_3_38 : decode cJ7_init_3 38 = .ok (.return_, 1) := dk_177 (dk_at dksJ7_init_3_1 14 rfl rfl)
theorem q52 : (Jvm.Cond.initialized "java/lang/Throwable") ∈ lw_all := lw_g (lw_at lw_m1 13 rfl) rfl
theorem q242 : (Jvm.Cond.declares ({ cls := "java/lang/Throwable", name := "<init>", desc := "()V" } : Jvm.MethodName)) ∈ lw_tbl := lw_at lw_m1 203 rfl
theorem q243 : (Jvm.Cond.declares ({ cls := "java/lang/Throwable", name := "<init>", desc := "(Ljava/lang/String;)V" } : Jvm.MethodName)) ∈ lw_tbl := lw_at lw_m1 204 rfl
theorem q247 : (Jvm.Cond.lays "java/lang/Throwable" "java/lang/Throwable" "cause" "Ljava/lang/Throwable;") ∈ lw_all := lw_g (lw_at lw_m1 208 rfl) rfl
theorem q249 : (Jvm.Cond.lays "java/lang/Throwable" "java/lang/Throwable" "stackTrace" "[Ljava/lang/StackTraceElement;") ∈ lw_all := lw_g (lw_at lw_m1 210 rfl) rfl
theorem q251 : (Jvm.Cond.lays "java/lang/Throwable" "java/lang/Throwable" "suppressedExceptions" "Ljava/util/List;") ∈ lw_all := lw_g (lw_at lw_m1 212 rfl) rfl
theorem q253 : (Jvm.Cond.lays "java/lang/Throwable" "java/lang/Throwable" "detailMessage" "Ljava/lang/String;") ∈ lw_all := lw_g (lw_at lw_m1 214 rfl) rfl
theorem q255 : (Jvm.Cond.lays "java/lang/Throwable" "java/lang/Throwable" "backtrace" "Ljava/lang/Object;") ∈ lw_all := lw_g (lw_at lw_m1 216 rfl) rfl
theorem q256 : (Jvm.Cond.fieldLink "java/lang/Throwable" (198 : Nat) "java/lang/Throwable" "backtrace" "Ljava/lang/Object;") ∈ lw_all := lw_g (lw_at lw_m1 217 rfl) rfl
theorem q257 : (Jvm.Cond.superclass "java/lang/Throwable" "java/lang/Object") ∈ lw_all := lw_g (lw_at lw_m1 218 rfl) rfl
theorem q258 : (Jvm.Cond.instanceMethod ({ cls := "java/lang/Throwable", name := "<init>", desc := "()V" } : Jvm.MethodName)) ∈ lw_all := lw_g (lw_at lw_m1 219 rfl) rfl
theorem q259 : (Jvm.Cond.code ({ cls := "java/lang/Throwable", name := "<init>", desc := "()V" } : Jvm.MethodName) prog_43_method_1_code (1 : Nat) (Option.none : Option Jvm.ClassFile.FieldType)) ∈ lw_all := lw_g (lw_at lw_m1 220 rfl) rfl
theorem q260 : (Jvm.Cond.methodLink "java/lang/Throwable" (1 : Nat) ({ cls := "java/lang/Object", name := "<init>", desc := "()V" } : Jvm.MethodName)) ∈ lw_all := lw_g (lw_at lw_m1 221 rfl) rfl
theorem q261 : (Jvm.Cond.fieldLink "java/lang/Throwable" (13 : Nat) "java/lang/Throwable" "UNASSIGNED_STACK" "[Ljava/lang/StackTraceElement;") ∈ lw_all := lw_g (lw_at lw_m1 222 rfl) rfl
theorem q262 : (Jvm.Cond.laysStatic "java/lang/Throwable" "UNASSIGNED_STACK" "[Ljava/lang/StackTraceElement;") ∈ lw_tbl := lw_at lw_m1 223 rfl
theorem q263 : (Jvm.Cond.fieldLink "java/lang/Throwable" (20 : Nat) "java/lang/Throwable" "SUPPRESSED_SENTINEL" "Ljava/util/List;") ∈ lw_all := lw_g (lw_at lw_m1 224 rfl) rfl
theorem q264 : (Jvm.Cond.laysStatic "java/lang/Throwable" "SUPPRESSED_SENTINEL" "Ljava/util/List;") ∈ lw_tbl := lw_at lw_m1 225 rfl
theorem q265 : (Jvm.Cond.methodLink "java/lang/Throwable" (27 : Nat) ({ cls := "java/lang/Throwable", name := "fillInStackTrace", desc := "()Ljava/lang/Throwable;" } : Jvm.MethodName)) ∈ lw_all := lw_g (lw_at lw_m1 226 rfl) rfl
theorem q266 : (Jvm.Cond.instanceMethod ({ cls := "java/lang/Throwable", name := "fillInStackTrace", desc := "()Ljava/lang/Throwable;" } : Jvm.MethodName)) ∈ lw_all := lw_g (lw_at lw_m1 227 rfl) rfl
theorem q267 : (Jvm.Cond.sameMethod "java/lang/Throwable" "java/lang/Throwable" "fillInStackTrace" "()Ljava/lang/Throwable;") ∈ lw_all := lw_g (lw_at lw_m1 228 rfl) rfl
theorem q275 : (Jvm.Cond.codeSync ({ cls := "java/lang/Throwable", name := "fillInStackTrace", desc := "()Ljava/lang/Throwable;" } : Jvm.MethodName) prog_43_method_18_code (1 : Nat) (Option.some (Jvm.ClassFile.FieldType.object "java/lang/Throwable"))) ∈ lw_all := lw_g (lw_at lw_m1 236 rfl) rfl
theorem q276 : (Jvm.Cond.methodLink "java/lang/Throwable" (202 : Nat) ({ cls := "java/lang/Throwable", name := "fillInStackTrace", desc := "(I)Ljava/lang/Throwable;" } : Jvm.MethodName)) ∈ lw_all := lw_g (lw_at lw_m1 237 rfl) rfl
theorem q277 : (Jvm.Cond.privateMethod ({ cls := "java/lang/Throwable", name := "fillInStackTrace", desc := "(I)Ljava/lang/Throwable;" } : Jvm.MethodName)) ∈ lw_tbl := lw_at lw_m1 238 rfl
theorem q278 : (Jvm.Cond.instanceMethod ({ cls := "java/lang/Throwable", name := "fillInStackTrace", desc := "(I)Ljava/lang/Throwable;" } : Jvm.MethodName)) ∈ lw_all := lw_g (lw_at lw_m1 239 rfl) rfl
theorem q279 : (Jvm.Cond.instantiable "java/lang/Throwable" (6 : Nat)) ∈ lw_all := lw_g (lw_at lw_m2 0 rfl) rfl
theorem q280 : (Jvm.Cond.native ({ cls := "java/lang/Throwable", name := "fillInStackTrace", desc := "(I)Ljava/lang/Throwable;" } : Jvm.MethodName)) ∈ lw_all := lw_g (lw_at lw_m2 1 rfl) rfl
theorem q291 : (Jvm.Cond.fieldLink "java/lang/Throwable" (198 : Nat) "java/lang/Throwable" "backtrace" "Ljava/lang/Object;") ∈ lw_all := lw_g (lw_at lw_m2 12 rfl) rfl
theorem q292 : (Jvm.Cond.fieldLink "java/lang/Throwable" (31 : Nat) "java/lang/Throwable" "detailMessage" "Ljava/lang/String;") ∈ lw_all := lw_g (lw_at lw_m2 13 rfl) rfl
theorem q293 : (Jvm.Cond.fieldLink "java/lang/Throwable" (7 : Nat) "java/lang/Throwable" "cause" "Ljava/lang/Throwable;") ∈ lw_all := lw_g (lw_at lw_m2 14 rfl) rfl
theorem q294 : (Jvm.Cond.fieldLink "java/lang/Throwable" (17 : Nat) "java/lang/Throwable" "stackTrace" "[Ljava/lang/StackTraceElement;") ∈ lw_all := lw_g (lw_at lw_m2 15 rfl) rfl
theorem q295 : (Jvm.Cond.fieldLink "java/lang/Throwable" (24 : Nat) "java/lang/Throwable" "suppressedExceptions" "Ljava/util/List;") ∈ lw_all := lw_g (lw_at lw_m2 16 rfl) rfl
theorem q296 : (Jvm.Cond.soleField "java/lang/Throwable" "backtrace") ∈ lw_all := lw_g (lw_at lw_m2 17 rfl) rfl
theorem q297 : (Jvm.Cond.soleField "java/lang/Throwable" "detailMessage") ∈ lw_all := lw_g (lw_at lw_m2 18 rfl) rfl
theorem q298 : (Jvm.Cond.soleField "java/lang/Throwable" "cause") ∈ lw_all := lw_g (lw_at lw_m2 19 rfl) rfl
theorem q299 : (Jvm.Cond.soleField "java/lang/Throwable" "stackTrace") ∈ lw_all := lw_g (lw_at lw_m2 20 rfl) rfl
theorem q301 : (Jvm.Cond.soleField "java/lang/Throwable" "depth") ∈ lw_all := lw_g (lw_at lw_m2 22 rfl) rfl
theorem q302 : (Jvm.Cond.soleField "java/lang/Throwable" "suppressedExceptions") ∈ lw_all := lw_g (lw_at lw_m2 23 rfl) rfl
theorem q689 : (Jvm.Cond.instanceMethod ({ cls := "java/lang/Throwable", name := "<init>", desc := "(Ljava/lang/String;)V" } : Jvm.MethodName)) ∈ lw_all := lw_g (lw_at lw_m3 170 rfl) rfl
theorem q690 : (Jvm.Cond.code ({ cls := "java/lang/Throwable", name := "<init>", desc := "(Ljava/lang/String;)V" } : Jvm.MethodName) prog_43_method_2_code (2 : Nat) (Option.none : Option Jvm.ClassFile.FieldType)) ∈ lw_all := lw_g (lw_at lw_m3 171 rfl) rfl
theorem q1096 : (Jvm.Cond.instanceMethod ({ cls := "java/lang/Throwable", name := "<init>", desc := "(Ljava/lang/String;Ljava/lang/Throwable;)V" } : Jvm.MethodName)) ∈ lw_all := lw_g (lw_at lw_m5 97 rfl) rfl
theorem q1097 : (Jvm.Cond.code ({ cls := "java/lang/Throwable", name := "<init>", desc := "(Ljava/lang/String;Ljava/lang/Throwable;)V" } : Jvm.MethodName) prog_43_method_3_code (3 : Nat) (Option.none : Option Jvm.ClassFile.FieldType)) ∈ lw_all := lw_g (lw_at lw_m5 98 rfl) rfl
theorem q1972 : (Jvm.Cond.sameMethod "java/lang/Throwable" "java/lang/Throwable" "fillInStackTrace" "(I)Ljava/lang/Throwable;") ∈ lw_all := lw_g (lw_at lw_m9 13 rfl) rfl
theorem q2014 : (Jvm.Cond.castable "java/lang/Throwable" "java/lang/Object") ∈ lw_tbl := lw_at lw_m9 55 rfl
theorem in_J7 : ∀ w ∈ wsJ70, w ∈ lw_all := lw_in wsJ70 [247, 249, 251, 253, 255] (by decide +kernel) (by decide +kernel)

/-! java/lang/Exception -/
set_option maxRecDepth 100000
def RJ8 : String := "java/lang/Exception"
abbrev cJ8_init : ByteArray := prog_31_method_1_code
def yJ8_init : MethodName := ⟨RJ8, "<init>", "()V"⟩
theorem dJ8_init_0 : decode cJ8_init 0 = .ok (.aload_n 0, 1) := by decide +kernel
theorem dJ8_init_1 : decode cJ8_init 1 = .ok (.invokespecial 1, 3) := by decide +kernel
theorem dJ8_init_4 : decode cJ8_init 4 = .ok (.return_, 1) := by decide +kernel
abbrev cJ8_init_2 : ByteArray := prog_31_method_2_code
def yJ8_init_2 : MethodName := ⟨RJ8, "<init>", "(Ljava/lang/String;)V"⟩
def dkwJ8_init_2_0 : List UInt8 := [42, 43, 183, 0, 7, 177]
abbrev dktJ8_init_2_0 : List UInt8 := dkwJ8_init_2_0 ++ []
theorem dksJ8_init_2_0 : cJ8_init_2.data.toList.drop 0 = dktJ8_init_2_0 := by decide +kernel
theorem dJ8_init_2_0 : decode cJ8_init_2 0 = .ok (.aload_n 0, 1) := dk_42 (dk_at dksJ8_init_2_0 0 rfl rfl)
theorem dJ8_init_2_1 : decode cJ8_init_2 1 = .ok (.aload_n 1, 1) := dk_43 (dk_at dksJ8_init_2_0 1 rfl rfl)
theorem dJ8_init_2_2 : decode cJ8_init_2 2 = .ok (.invokespecial 7, 3) := dk_183 0 7 (dk_at dksJ8_init_2_0 2 rfl rfl)
theorem dJ8_init_2_5 : decode cJ8_init_2 5 = .ok (.return_, 1) := dk_177 (dk_at dksJ8_init_2_0 5 rfl rfl)
abbrev cJ8_init_3 : ByteArray := prog_31_method_3_code
def yJ8_init_3 : MethodName := ⟨RJ8, "<init>", "(Ljava/lang/String;Ljava/lang/Throwable;)V"⟩
def dkwJ8_init_3_0 : List UInt8 := [42, 43, 44, 183, 0, 10, 177]
abbrev dktJ8_init_3_0 : List UInt8 := dkwJ8_init_3_0 ++ []
theorem dksJ8_init_3_0 : cJ8_init_3.data.toList.drop 0 = dktJ8_init_3_0 := by decide +kernel
theorem dJ8_init_3_0 : decode cJ8_init_3 0 = .ok (.aload_n 0, 1) := dk_42 (dk_at dksJ8_init_3_0 0 rfl rfl)
theorem dJ8_init_3_1 : decode cJ8_init_3 1 = .ok (.aload_n 1, 1) := dk_43 (dk_at dksJ8_init_3_0 1 rfl rfl)
theorem dJ8_init_3_2 : decode cJ8_init_3 2 = .ok (.aload_n 2, 1) := dk_44 (dk_at dksJ8_init_3_0 2 rfl rfl)
theorem dJ8_init_3_3 : decode cJ8_init_3 3 = .ok (.invokespecial 10, 3) := dk_183 0 10 (dk_at dksJ8_init_3_0 3 rfl rfl)
theorem dJ8_init_3_6 : decode cJ8_init_3 6 = .ok (.return_, 1) := dk_177 (dk_at dksJ8_init_3_0 6 rfl rfl)
theorem q53 : (Jvm.Cond.initialized "java/lang/Exception") ∈ lw_all := lw_g (lw_at lw_m1 14 rfl) rfl
theorem q240 : (Jvm.Cond.declares ({ cls := "java/lang/Exception", name := "<init>", desc := "()V" } : Jvm.MethodName)) ∈ lw_tbl := lw_at lw_m1 201 rfl
theorem q241 : (Jvm.Cond.declares ({ cls := "java/lang/Exception", name := "<init>", desc := "(Ljava/lang/String;)V" } : Jvm.MethodName)) ∈ lw_tbl := lw_at lw_m1 202 rfl
theorem q288 : (Jvm.Cond.instanceMethod ({ cls := "java/lang/Exception", name := "<init>", desc := "()V" } : Jvm.MethodName)) ∈ lw_all := lw_g (lw_at lw_m2 9 rfl) rfl
theorem q289 : (Jvm.Cond.code ({ cls := "java/lang/Exception", name := "<init>", desc := "()V" } : Jvm.MethodName) prog_31_method_1_code (1 : Nat) (Option.none : Option Jvm.ClassFile.FieldType)) ∈ lw_all := lw_g (lw_at lw_m2 10 rfl) rfl
theorem q290 : (Jvm.Cond.methodLink "java/lang/Exception" (1 : Nat) ({ cls := "java/lang/Throwable", name := "<init>", desc := "()V" } : Jvm.MethodName)) ∈ lw_all := lw_g (lw_at lw_m2 11 rfl) rfl
theorem q686 : (Jvm.Cond.instanceMethod ({ cls := "java/lang/Exception", name := "<init>", desc := "(Ljava/lang/String;)V" } : Jvm.MethodName)) ∈ lw_all := lw_g (lw_at lw_m3 167 rfl) rfl
theorem q687 : (Jvm.Cond.code ({ cls := "java/lang/Exception", name := "<init>", desc := "(Ljava/lang/String;)V" } : Jvm.MethodName) prog_31_method_2_code (2 : Nat) (Option.none : Option Jvm.ClassFile.FieldType)) ∈ lw_all := lw_g (lw_at lw_m3 168 rfl) rfl
theorem q688 : (Jvm.Cond.methodLink "java/lang/Exception" (7 : Nat) ({ cls := "java/lang/Throwable", name := "<init>", desc := "(Ljava/lang/String;)V" } : Jvm.MethodName)) ∈ lw_all := lw_g (lw_at lw_m3 169 rfl) rfl
theorem q1093 : (Jvm.Cond.instanceMethod ({ cls := "java/lang/Exception", name := "<init>", desc := "(Ljava/lang/String;Ljava/lang/Throwable;)V" } : Jvm.MethodName)) ∈ lw_all := lw_g (lw_at lw_m5 94 rfl) rfl
theorem q1094 : (Jvm.Cond.code ({ cls := "java/lang/Exception", name := "<init>", desc := "(Ljava/lang/String;Ljava/lang/Throwable;)V" } : Jvm.MethodName) prog_31_method_3_code (3 : Nat) (Option.none : Option Jvm.ClassFile.FieldType)) ∈ lw_all := lw_g (lw_at lw_m5 95 rfl) rfl
theorem q1095 : (Jvm.Cond.methodLink "java/lang/Exception" (10 : Nat) ({ cls := "java/lang/Throwable", name := "<init>", desc := "(Ljava/lang/String;Ljava/lang/Throwable;)V" } : Jvm.MethodName)) ∈ lw_all := lw_g (lw_at lw_m5 96 rfl) rfl

/-! java/lang/RuntimeException -/
set_option maxRecDepth 100000
def RJ9 : String := "java/lang/RuntimeException"
abbrev cJ9_init : ByteArray := prog_40_method_1_code
def yJ9_init : MethodName := ⟨RJ9, "<init>", "()V"⟩
theorem dJ9_init_0 : decode cJ9_init 0 = .ok (.aload_n 0, 1) := by decide +kernel
theorem dJ9_init_1 : decode cJ9_init 1 = .ok (.invokespecial 1, 3) := by decide +kernel
theorem dJ9_init_4 : decode cJ9_init 4 = .ok (.return_, 1) := by decide +kernel
abbrev cJ9_init_2 : ByteArray := prog_40_method_2_code
def yJ9_init_2 : MethodName := ⟨RJ9, "<init>", "(Ljava/lang/String;)V"⟩
def dkwJ9_init_2_0 : List UInt8 := [42, 43, 183, 0, 7, 177]
abbrev dktJ9_init_2_0 : List UInt8 := dkwJ9_init_2_0 ++ []
theorem dksJ9_init_2_0 : cJ9_init_2.data.toList.drop 0 = dktJ9_init_2_0 := by decide +kernel
theorem dJ9_init_2_0 : decode cJ9_init_2 0 = .ok (.aload_n 0, 1) := dk_42 (dk_at dksJ9_init_2_0 0 rfl rfl)
theorem dJ9_init_2_1 : decode cJ9_init_2 1 = .ok (.aload_n 1, 1) := dk_43 (dk_at dksJ9_init_2_0 1 rfl rfl)
theorem dJ9_init_2_2 : decode cJ9_init_2 2 = .ok (.invokespecial 7, 3) := dk_183 0 7 (dk_at dksJ9_init_2_0 2 rfl rfl)
theorem dJ9_init_2_5 : decode cJ9_init_2 5 = .ok (.return_, 1) := dk_177 (dk_at dksJ9_init_2_0 5 rfl rfl)
abbrev cJ9_init_3 : ByteArray := prog_40_method_3_code
def yJ9_init_3 : MethodName := ⟨RJ9, "<init>", "(Ljava/lang/String;Ljava/lang/Throwable;)V"⟩
def dkwJ9_init_3_0 : List UInt8 := [42, 43, 44, 183, 0, 10, 177]
abbrev dktJ9_init_3_0 : List UInt8 := dkwJ9_init_3_0 ++ []
theorem dksJ9_init_3_0 : cJ9_init_3.data.toList.drop 0 = dktJ9_init_3_0 := by decide +kernel
theorem dJ9_init_3_0 : decode cJ9_init_3 0 = .ok (.aload_n 0, 1) := dk_42 (dk_at dksJ9_init_3_0 0 rfl rfl)
theorem dJ9_init_3_1 : decode cJ9_init_3 1 = .ok (.aload_n 1, 1) := dk_43 (dk_at dksJ9_init_3_0 1 rfl rfl)
theorem dJ9_init_3_2 : decode cJ9_init_3 2 = .ok (.aload_n 2, 1) := dk_44 (dk_at dksJ9_init_3_0 2 rfl rfl)
theorem dJ9_init_3_3 : decode cJ9_init_3 3 = .ok (.invokespecial 10, 3) := dk_183 0 10 (dk_at dksJ9_init_3_0 3 rfl rfl)
theorem dJ9_init_3_6 : decode cJ9_init_3 6 = .ok (.return_, 1) := dk_177 (dk_at dksJ9_init_3_0 6 rfl rfl)
theorem q54 : (Jvm.Cond.initialized "java/lang/RuntimeException") ∈ lw_all := lw_g (lw_at lw_m1 15 rfl) rfl
theorem q238 : (Jvm.Cond.declares ({ cls := "java/lang/RuntimeException", name := "<init>", desc := "()V" } : Jvm.MethodName)) ∈ lw_tbl := lw_at lw_m1 199 rfl
theorem q239 : (Jvm.Cond.declares ({ cls := "java/lang/RuntimeException", name := "<init>", desc := "(Ljava/lang/String;)V" } : Jvm.MethodName)) ∈ lw_tbl := lw_at lw_m1 200 rfl
theorem q285 : (Jvm.Cond.instanceMethod ({ cls := "java/lang/RuntimeException", name := "<init>", desc := "()V" } : Jvm.MethodName)) ∈ lw_all := lw_g (lw_at lw_m2 6 rfl) rfl
theorem q286 : (Jvm.Cond.code ({ cls := "java/lang/RuntimeException", name := "<init>", desc := "()V" } : Jvm.MethodName) prog_40_method_1_code (1 : Nat) (Option.none : Option Jvm.ClassFile.FieldType)) ∈ lw_all := lw_g (lw_at lw_m2 7 rfl) rfl
theorem q287 : (Jvm.Cond.methodLink "java/lang/RuntimeException" (1 : Nat) ({ cls := "java/lang/Exception", name := "<init>", desc := "()V" } : Jvm.MethodName)) ∈ lw_all := lw_g (lw_at lw_m2 8 rfl) rfl
theorem q683 : (Jvm.Cond.instanceMethod ({ cls := "java/lang/RuntimeException", name := "<init>", desc := "(Ljava/lang/String;)V" } : Jvm.MethodName)) ∈ lw_all := lw_g (lw_at lw_m3 164 rfl) rfl
theorem q684 : (Jvm.Cond.code ({ cls := "java/lang/RuntimeException", name := "<init>", desc := "(Ljava/lang/String;)V" } : Jvm.MethodName) prog_40_method_2_code (2 : Nat) (Option.none : Option Jvm.ClassFile.FieldType)) ∈ lw_all := lw_g (lw_at lw_m3 165 rfl) rfl
theorem q685 : (Jvm.Cond.methodLink "java/lang/RuntimeException" (7 : Nat) ({ cls := "java/lang/Exception", name := "<init>", desc := "(Ljava/lang/String;)V" } : Jvm.MethodName)) ∈ lw_all := lw_g (lw_at lw_m3 166 rfl) rfl
theorem q1127 : (Jvm.Cond.instanceMethod ({ cls := "java/lang/RuntimeException", name := "<init>", desc := "(Ljava/lang/String;Ljava/lang/Throwable;)V" } : Jvm.MethodName)) ∈ lw_all := lw_g (lw_at lw_m5 128 rfl) rfl
theorem q1128 : (Jvm.Cond.code ({ cls := "java/lang/RuntimeException", name := "<init>", desc := "(Ljava/lang/String;Ljava/lang/Throwable;)V" } : Jvm.MethodName) prog_40_method_3_code (3 : Nat) (Option.none : Option Jvm.ClassFile.FieldType)) ∈ lw_all := lw_g (lw_at lw_m5 129 rfl) rfl
theorem q1129 : (Jvm.Cond.methodLink "java/lang/RuntimeException" (10 : Nat) ({ cls := "java/lang/Exception", name := "<init>", desc := "(Ljava/lang/String;Ljava/lang/Throwable;)V" } : Jvm.MethodName)) ∈ lw_all := lw_g (lw_at lw_m5 130 rfl) rfl

/-! java/lang/IllegalArgumentException -/
set_option maxRecDepth 100000
def RJ10 : String := "java/lang/IllegalArgumentException"
def TJ10 : u_T := fun k => match k with
  | 0 => ("java/lang/Throwable", "cause", "Ljava/lang/Throwable;", false)
  | 1 => ("java/lang/Throwable", "stackTrace", "[Ljava/lang/StackTraceElement;", false)
  | 2 => ("java/lang/Throwable", "suppressedExceptions", "Ljava/util/List;", false)
  | 3 => ("java/lang/Throwable", "detailMessage", "Ljava/lang/String;", false)
  | 4 => ("java/lang/Throwable", "backtrace", "Ljava/lang/Object;", false)
  | _ => ("java/lang/Throwable", "depth", "I", false)
def tyJ10 : Nat → FieldType := fun k => match k with
  | 0 => .object "java/lang/Throwable"
  | 1 => .array (.object "java/lang/StackTraceElement")
  | 2 => .object "java/util/List"
  | 3 => .object "java/lang/String"
  | 4 => .object "java/lang/Object"
  | _ => .int
abbrev wsJ100 : List Cond := u_ws RJ10 TJ10 6
theorem nmJ10 : ∀ a, a < 6 → ∀ b, b < 6 → a ≠ b → (TJ10 a).2.1 ≠ (TJ10 b).2.1 := by decide +kernel
theorem tyJ10_ok : ∀ k, k < 6 → parseFieldDescriptor (TJ10 k).2.2.1 = some (tyJ10 k) := by decide +kernel
abbrev cJ10_init : ByteArray := prog_32_method_1_code
def yJ10_init : MethodName := ⟨RJ10, "<init>", "()V"⟩
theorem dJ10_init_0 : decode cJ10_init 0 = .ok (.aload_n 0, 1) := by decide +kernel
theorem dJ10_init_1 : decode cJ10_init 1 = .ok (.invokespecial 1, 3) := by decide +kernel
theorem dJ10_init_4 : decode cJ10_init 4 = .ok (.return_, 1) := by decide +kernel
theorem q55 : (Jvm.Cond.initialized "java/lang/IllegalArgumentException") ∈ lw_all := lw_g (lw_at lw_m1 16 rfl) rfl
theorem q271 : (Jvm.Cond.selects "java/lang/IllegalArgumentException" ({ cls := "java/lang/Throwable", name := "fillInStackTrace", desc := "()Ljava/lang/Throwable;" } : Jvm.MethodName) ({ cls := "java/lang/Throwable", name := "fillInStackTrace", desc := "()Ljava/lang/Throwable;" } : Jvm.MethodName)) ∈ lw_all := lw_g (lw_at lw_m1 232 rfl) rfl
theorem q412 : (Jvm.Cond.instantiable "java/lang/IllegalArgumentException" (6 : Nat)) ∈ lw_all := lw_g (lw_at lw_m2 133 rfl) rfl
theorem q413 : (Jvm.Cond.castable "java/lang/IllegalArgumentException" "java/lang/IllegalArgumentException") ∈ lw_tbl := lw_at lw_m2 134 rfl
theorem q414 : (Jvm.Cond.selects "java/lang/IllegalArgumentException" ({ cls := "java/lang/Throwable", name := "fillInStackTrace", desc := "(I)Ljava/lang/Throwable;" } : Jvm.MethodName) ({ cls := "java/lang/Throwable", name := "fillInStackTrace", desc := "(I)Ljava/lang/Throwable;" } : Jvm.MethodName)) ∈ lw_all := lw_g (lw_at lw_m2 135 rfl) rfl
theorem q415 : (Jvm.Cond.lays "java/lang/IllegalArgumentException" "java/lang/Throwable" "cause" "Ljava/lang/Throwable;") ∈ lw_all := lw_g (lw_at lw_m2 136 rfl) rfl
theorem q416 : (Jvm.Cond.lays "java/lang/IllegalArgumentException" "java/lang/Throwable" "stackTrace" "[Ljava/lang/StackTraceElement;") ∈ lw_all := lw_g (lw_at lw_m2 137 rfl) rfl
theorem q417 : (Jvm.Cond.lays "java/lang/IllegalArgumentException" "java/lang/Throwable" "suppressedExceptions" "Ljava/util/List;") ∈ lw_all := lw_g (lw_at lw_m2 138 rfl) rfl
theorem q418 : (Jvm.Cond.lays "java/lang/IllegalArgumentException" "java/lang/Throwable" "detailMessage" "Ljava/lang/String;") ∈ lw_all := lw_g (lw_at lw_m2 139 rfl) rfl
theorem q419 : (Jvm.Cond.lays "java/lang/IllegalArgumentException" "java/lang/Throwable" "backtrace" "Ljava/lang/Object;") ∈ lw_all := lw_g (lw_at lw_m2 140 rfl) rfl
theorem q421 : (Jvm.Cond.instanceMethod ({ cls := "java/lang/IllegalArgumentException", name := "<init>", desc := "()V" } : Jvm.MethodName)) ∈ lw_all := lw_g (lw_at lw_m2 142 rfl) rfl
theorem q422 : (Jvm.Cond.code ({ cls := "java/lang/IllegalArgumentException", name := "<init>", desc := "()V" } : Jvm.MethodName) prog_32_method_1_code (1 : Nat) (Option.none : Option Jvm.ClassFile.FieldType)) ∈ lw_all := lw_g (lw_at lw_m2 143 rfl) rfl
theorem q423 : (Jvm.Cond.methodLink "java/lang/IllegalArgumentException" (1 : Nat) ({ cls := "java/lang/RuntimeException", name := "<init>", desc := "()V" } : Jvm.MethodName)) ∈ lw_all := lw_g (lw_at lw_m2 144 rfl) rfl
theorem q424 : (Jvm.Cond.lays "java/lang/IllegalArgumentException" "java/lang/Throwable" "depth" "I") ∈ lw_all := lw_g (lw_at lw_m2 145 rfl) rfl
theorem q425 : (Jvm.Cond.superclass "java/lang/IllegalArgumentException" "java/lang/RuntimeException") ∈ lw_all := lw_g (lw_at lw_m2 146 rfl) rfl
theorem q580 : (Jvm.Cond.selects "java/lang/IllegalArgumentException" ({ cls := "java/lang/Object", name := "getClass", desc := "()Ljava/lang/Class;" } : Jvm.MethodName) ({ cls := "java/lang/Object", name := "getClass", desc := "()Ljava/lang/Class;" } : Jvm.MethodName)) ∈ lw_all := lw_g (lw_at lw_m3 61 rfl) rfl
theorem q1987 : (Jvm.Cond.castable "java/lang/IllegalArgumentException" "java/lang/Object") ∈ lw_tbl := lw_at lw_m9 28 rfl
theorem in_J10 : ∀ w ∈ wsJ100, w ∈ lw_all := lw_in wsJ100 [415, 416, 417, 418, 419, 424] (by decide +kernel) (by decide +kernel)

/-! java/lang/IllegalStateException -/
set_option maxRecDepth 100000
def RJ11 : String := "java/lang/IllegalStateException"
def TJ11 : u_T := fun k => match k with
  | 0 => ("java/lang/Throwable", "cause", "Ljava/lang/Throwable;", false)
  | 1 => ("java/lang/Throwable", "stackTrace", "[Ljava/lang/StackTraceElement;", false)
  | 2 => ("java/lang/Throwable", "suppressedExceptions", "Ljava/util/List;", false)
  | 3 => ("java/lang/Throwable", "detailMessage", "Ljava/lang/String;", false)
  | 4 => ("java/lang/Throwable", "backtrace", "Ljava/lang/Object;", false)
  | _ => ("java/lang/Throwable", "depth", "I", false)
def tyJ11 : Nat → FieldType := fun k => match k with
  | 0 => .object "java/lang/Throwable"
  | 1 => .array (.object "java/lang/StackTraceElement")
  | 2 => .object "java/util/List"
  | 3 => .object "java/lang/String"
  | 4 => .object "java/lang/Object"
  | _ => .int
abbrev wsJ110 : List Cond := u_ws RJ11 TJ11 6
theorem nmJ11 : ∀ a, a < 6 → ∀ b, b < 6 → a ≠ b → (TJ11 a).2.1 ≠ (TJ11 b).2.1 := by decide +kernel
theorem tyJ11_ok : ∀ k, k < 6 → parseFieldDescriptor (TJ11 k).2.2.1 = some (tyJ11 k) := by decide +kernel
abbrev cJ11_init : ByteArray := prog_33_method_1_code
def yJ11_init : MethodName := ⟨RJ11, "<init>", "()V"⟩
theorem dJ11_init_0 : decode cJ11_init 0 = .ok (.aload_n 0, 1) := by decide +kernel
theorem dJ11_init_1 : decode cJ11_init 1 = .ok (.invokespecial 1, 3) := by decide +kernel
theorem dJ11_init_4 : decode cJ11_init 4 = .ok (.return_, 1) := by decide +kernel
abbrev cJ11_init_2 : ByteArray := prog_33_method_3_code
def yJ11_init_2 : MethodName := ⟨RJ11, "<init>", "(Ljava/lang/String;Ljava/lang/Throwable;)V"⟩
def dkwJ11_init_2_0 : List UInt8 := [42, 43, 44, 183, 0, 10, 177]
abbrev dktJ11_init_2_0 : List UInt8 := dkwJ11_init_2_0 ++ []
theorem dksJ11_init_2_0 : cJ11_init_2.data.toList.drop 0 = dktJ11_init_2_0 := by decide +kernel
theorem dJ11_init_2_0 : decode cJ11_init_2 0 = .ok (.aload_n 0, 1) := dk_42 (dk_at dksJ11_init_2_0 0 rfl rfl)
theorem dJ11_init_2_1 : decode cJ11_init_2 1 = .ok (.aload_n 1, 1) := dk_43 (dk_at dksJ11_init_2_0 1 rfl rfl)
theorem dJ11_init_2_2 : decode cJ11_init_2 2 = .ok (.aload_n 2, 1) := dk_44 (dk_at dksJ11_init_2_0 2 rfl rfl)
theorem dJ11_init_2_3 : decode cJ11_init_2 3 = .ok (.invokespecial 10, 3) := dk_183 0 10 (dk_at dksJ11_init_2_0 3 rfl rfl)
theorem dJ11_init_2_6 : decode cJ11_init_2 6 = .ok (.return_, 1) := dk_177 (dk_at dksJ11_init_2_0 6 rfl rfl)
theorem q56 : (Jvm.Cond.initialized "java/lang/IllegalStateException") ∈ lw_all := lw_g (lw_at lw_m1 17 rfl) rfl
theorem q272 : (Jvm.Cond.selects "java/lang/IllegalStateException" ({ cls := "java/lang/Throwable", name := "fillInStackTrace", desc := "()Ljava/lang/Throwable;" } : Jvm.MethodName) ({ cls := "java/lang/Throwable", name := "fillInStackTrace", desc := "()Ljava/lang/Throwable;" } : Jvm.MethodName)) ∈ lw_all := lw_g (lw_at lw_m1 233 rfl) rfl
theorem q430 : (Jvm.Cond.instantiable "java/lang/IllegalStateException" (6 : Nat)) ∈ lw_all := lw_g (lw_at lw_m2 151 rfl) rfl
theorem q431 : (Jvm.Cond.castable "java/lang/IllegalStateException" "java/lang/IllegalStateException") ∈ lw_tbl := lw_at lw_m2 152 rfl
theorem q432 : (Jvm.Cond.selects "java/lang/IllegalStateException" ({ cls := "java/lang/Throwable", name := "fillInStackTrace", desc := "(I)Ljava/lang/Throwable;" } : Jvm.MethodName) ({ cls := "java/lang/Throwable", name := "fillInStackTrace", desc := "(I)Ljava/lang/Throwable;" } : Jvm.MethodName)) ∈ lw_all := lw_g (lw_at lw_m2 153 rfl) rfl
theorem q433 : (Jvm.Cond.lays "java/lang/IllegalStateException" "java/lang/Throwable" "cause" "Ljava/lang/Throwable;") ∈ lw_all := lw_g (lw_at lw_m2 154 rfl) rfl
theorem q434 : (Jvm.Cond.lays "java/lang/IllegalStateException" "java/lang/Throwable" "stackTrace" "[Ljava/lang/StackTraceElement;") ∈ lw_all := lw_g (lw_at lw_m2 155 rfl) rfl
theorem q435 : (Jvm.Cond.lays "java/lang/IllegalStateException" "java/lang/Throwable" "suppressedExceptions" "Ljava/util/List;") ∈ lw_all := lw_g (lw_at lw_m2 156 rfl) rfl
theorem q436 : (Jvm.Cond.lays "java/lang/IllegalStateException" "java/lang/Throwable" "detailMessage" "Ljava/lang/String;") ∈ lw_all := lw_g (lw_at lw_m2 157 rfl) rfl
theorem q437 : (Jvm.Cond.lays "java/lang/IllegalStateException" "java/lang/Throwable" "backtrace" "Ljava/lang/Object;") ∈ lw_all := lw_g (lw_at lw_m2 158 rfl) rfl
theorem q439 : (Jvm.Cond.instanceMethod ({ cls := "java/lang/IllegalStateException", name := "<init>", desc := "()V" } : Jvm.MethodName)) ∈ lw_all := lw_g (lw_at lw_m2 160 rfl) rfl
theorem q440 : (Jvm.Cond.code ({ cls := "java/lang/IllegalStateException", name := "<init>", desc := "()V" } : Jvm.MethodName) prog_33_method_1_code (1 : Nat) (Option.none : Option Jvm.ClassFile.FieldType)) ∈ lw_all := lw_g (lw_at lw_m2 161 rfl) rfl
theorem q441 : (Jvm.Cond.methodLink "java/lang/IllegalStateException" (1 : Nat) ({ cls := "java/lang/RuntimeException", name := "<init>", desc := "()V" } : Jvm.MethodName)) ∈ lw_all := lw_g (lw_at lw_m2 162 rfl) rfl
theorem q442 : (Jvm.Cond.lays "java/lang/IllegalStateException" "java/lang/Throwable" "depth" "I") ∈ lw_all := lw_g (lw_at lw_m2 163 rfl) rfl
theorem q443 : (Jvm.Cond.superclass "java/lang/IllegalStateException" "java/lang/RuntimeException") ∈ lw_all := lw_g (lw_at lw_m2 164 rfl) rfl
theorem q581 : (Jvm.Cond.selects "java/lang/IllegalStateException" ({ cls := "java/lang/Object", name := "getClass", desc := "()Ljava/lang/Class;" } : Jvm.MethodName) ({ cls := "java/lang/Object", name := "getClass", desc := "()Ljava/lang/Class;" } : Jvm.MethodName)) ∈ lw_all := lw_g (lw_at lw_m3 62 rfl) rfl
theorem q1124 : (Jvm.Cond.instanceMethod ({ cls := "java/lang/IllegalStateException", name := "<init>", desc := "(Ljava/lang/String;Ljava/lang/Throwable;)V" } : Jvm.MethodName)) ∈ lw_all := lw_g (lw_at lw_m5 125 rfl) rfl
theorem q1125 : (Jvm.Cond.code ({ cls := "java/lang/IllegalStateException", name := "<init>", desc := "(Ljava/lang/String;Ljava/lang/Throwable;)V" } : Jvm.MethodName) prog_33_method_3_code (3 : Nat) (Option.none : Option Jvm.ClassFile.FieldType)) ∈ lw_all := lw_g (lw_at lw_m5 126 rfl) rfl
theorem q1126 : (Jvm.Cond.methodLink "java/lang/IllegalStateException" (10 : Nat) ({ cls := "java/lang/RuntimeException", name := "<init>", desc := "(Ljava/lang/String;Ljava/lang/Throwable;)V" } : Jvm.MethodName)) ∈ lw_all := lw_g (lw_at lw_m5 127 rfl) rfl
theorem q1988 : (Jvm.Cond.castable "java/lang/IllegalStateException" "java/lang/Object") ∈ lw_tbl := lw_at lw_m9 29 rfl
theorem in_J11 : ∀ w ∈ wsJ110, w ∈ lw_all := lw_in wsJ110 [433, 434, 435, 436, 437, 442] (by decide +kernel) (by decide +kernel)

/-! java/util/AbstractQueue -/
set_option maxRecDepth 100000
def RJ12 : String := "java/util/AbstractQueue"
abbrev cJ12_init : ByteArray := prog_49_method_1_code
def yJ12_init : MethodName := ⟨RJ12, "<init>", "()V"⟩
theorem dJ12_init_0 : decode cJ12_init 0 = .ok (.aload_n 0, 1) := by decide +kernel
theorem dJ12_init_1 : decode cJ12_init 1 = .ok (.invokespecial 1, 3) := by decide +kernel
theorem dJ12_init_4 : decode cJ12_init 4 = .ok (.return_, 1) := by decide +kernel
theorem q58 : (Jvm.Cond.initialized "java/util/AbstractQueue") ∈ lw_all := lw_g (lw_at lw_m1 19 rfl) rfl
theorem q459 : (Jvm.Cond.instanceMethod ({ cls := "java/util/AbstractQueue", name := "<init>", desc := "()V" } : Jvm.MethodName)) ∈ lw_all := lw_g (lw_at lw_m2 180 rfl) rfl
theorem q460 : (Jvm.Cond.code ({ cls := "java/util/AbstractQueue", name := "<init>", desc := "()V" } : Jvm.MethodName) prog_49_method_1_code (1 : Nat) (Option.none : Option Jvm.ClassFile.FieldType)) ∈ lw_all := lw_g (lw_at lw_m2 181 rfl) rfl
theorem q461 : (Jvm.Cond.methodLink "java/util/AbstractQueue" (1 : Nat) ({ cls := "java/util/AbstractCollection", name := "<init>", desc := "()V" } : Jvm.MethodName)) ∈ lw_all := lw_g (lw_at lw_m2 182 rfl) rfl

/-! java/util/PriorityQueue -/
set_option maxRecDepth 100000
def RJ13 : String := "java/util/PriorityQueue"
def TJ13 : u_T := fun k => match k with
  | 0 => ("java/util/PriorityQueue", "queue", "[Ljava/lang/Object;", false)
  | 1 => ("java/util/PriorityQueue", "size", "I", false)
  | 2 => ("java/util/PriorityQueue", "comparator", "Ljava/util/Comparator;", true)
  | _ => ("java/util/PriorityQueue", "modCount", "I", false)
def tyJ13 : Nat → FieldType := fun k => match k with
  | 0 => .array (.object "java/lang/Object")
  | 1 => .int
  | 2 => .object "java/util/Comparator"
  | _ => .int
abbrev wsJ130 : List Cond := u_ws RJ13 TJ13 4
theorem nmJ13 : ∀ a, a < 4 → ∀ b, b < 4 → a ≠ b → (TJ13 a).2.1 ≠ (TJ13 b).2.1 := by decide +kernel
theorem tyJ13_ok : ∀ k, k < 4 → parseFieldDescriptor (TJ13 k).2.2.1 = some (tyJ13 k) := by decide +kernel
abbrev cJ13_init : ByteArray := prog_59_method_1_code
def yJ13_init : MethodName := ⟨RJ13, "<init>", "()V"⟩
def dkwJ13_init_0 : List UInt8 := [42, 16, 11, 1, 183, 0, 3, 177]
abbrev dktJ13_init_0 : List UInt8 := dkwJ13_init_0 ++ []
theorem dksJ13_init_0 : cJ13_init.data.toList.drop 0 = dktJ13_init_0 := by decide +kernel
theorem dJ13_init_0 : decode cJ13_init 0 = .ok (.aload_n 0, 1) := dk_42 (dk_at dksJ13_init_0 0 rfl rfl)
theorem dJ13_init_1 : decode cJ13_init 1 = .ok (.bipush 11, 2) := dk_16 11 (dk_at dksJ13_init_0 1 rfl rfl)
theorem dJ13_init_3 : decode cJ13_init 3 = .ok (.aconst_null, 1) := dk_1 (dk_at dksJ13_init_0 3 rfl rfl)
theorem dJ13_init_4 : decode cJ13_init 4 = .ok (.invokespecial 3, 3) := dk_183 0 3 (dk_at dksJ13_init_0 4 rfl rfl)
theorem dJ13_init_7 : decode cJ13_init 7 = .ok (.return_, 1) := dk_177 (dk_at dksJ13_init_0 7 rfl rfl)
abbrev cJ13_init_2 : ByteArray := prog_59_method_4_code
def yJ13_init_2 : MethodName := ⟨RJ13, "<init>", "(ILjava/util/Comparator;)V"⟩
def dkwJ13_init_2_1 : List UInt8 := [181, 0, 17, 42, 44, 181, 0, 21, 177]
abbrev dktJ13_init_2_1 : List UInt8 := dkwJ13_init_2_1 ++ []
def dkwJ13_init_2_0 : List UInt8 := [42, 183, 0, 7, 27, 4, 162, 0, 11, 187, 0, 12, 89, 183, 0, 14, 191, 42, 27, 189, 0, 15]
abbrev dktJ13_init_2_0 : List UInt8 := dkwJ13_init_2_0 ++ dktJ13_init_2_1
theorem dksJ13_init_2_0 : cJ13_init_2.data.toList.drop 0 = dktJ13_init_2_0 := by decide +kernel
theorem dksJ13_init_2_1 : cJ13_init_2.data.toList.drop 22 = dktJ13_init_2_1 := dk_seg dksJ13_init_2_0 22 rfl rfl
theorem dJ13_init_2_0 : decode cJ13_init_2 0 = .ok (.aload_n 0, 1) := dk_42 (dk_at dksJ13_init_2_0 0 rfl rfl)
theorem dJ13_init_2_1 : decode cJ13_init_2 1 = .ok (.invokespecial 7, 3) := dk_183 0 7 (dk_at dksJ13_init_2_0 1 rfl rfl)
theorem dJ13_init_2_4 : decode cJ13_init_2 4 = .ok (.iload_n 1, 1) := dk_27 (dk_at dksJ13_init_2_0 4 rfl rfl)
theorem dJ13_init_2_5 : decode cJ13_init_2 5 = .ok (.iconst 1, 1) := dk_4 (dk_at dksJ13_init_2_0 5 rfl rfl)
theorem dJ13_init_2_6 : decode cJ13_init_2 6 = .ok (.if_icmp .ge 11, 3) := dk_162 0 11 (dk_at dksJ13_init_2_0 6 rfl rfl)
theorem dJ13_init_2_9 : decode cJ13_init_2 9 = .ok (.new 12, 3) := dk_187 0 12 (dk_at dksJ13_init_2_0 9 rfl rfl)
theorem dJ13_init_2_12 : decode cJ13_init_2 12 = .ok (.dup, 1) := dk_89 (dk_at dksJ13_init_2_0 12 rfl rfl)
theorem dJ13_init_2_13 : decode cJ13_init_2 13 = .ok (.invokespecial 14, 3) := dk_183 0 14 (dk_at dksJ13_init_2_0 13 rfl rfl)
theorem dJ13_init_2_16 : decode cJ13_init_2 16 = .ok (.athrow, 1) := dk_191 (dk_at dksJ13_init_2_0 16 rfl rfl)
theorem dJ13_init_2_17 : decode cJ13_init_2 17 = .ok (.aload_n 0, 1) := dk_42 (dk_at dksJ13_init_2_0 17 rfl rfl)
theorem dJ13_init_2_18 : decode cJ13_init_2 18 = .ok (.iload_n 1, 1) := dk_27 (dk_at dksJ13_init_2_0 18 rfl rfl)
theorem dJ13_init_2_19 : decode cJ13_init_2 19 = .ok (.anewarray 15, 3) := dk_189 0 15 (dk_at dksJ13_init_2_0 19 rfl rfl)
theorem dJ13_init_2_22 : decode cJ13_init_2 22 = .ok (.putfield 17, 3) := dk_181 0 17 (dk_at dksJ13_init_2_1 0 rfl rfl)
theorem dJ13_init_2_25 : decode cJ13_init_2 25 = .ok (.aload_n 0, 1) := dk_42 (dk_at dksJ13_init_2_1 3 rfl rfl)
theorem dJ13_init_2_26 : decode cJ13_init_2 26 = .ok (.aload_n 2, 1) := dk_44 (dk_at dksJ13_init_2_1 4 rfl rfl)
theorem dJ13_init_2_27 : decode cJ13_init_2 27 = .ok (.putfield 21, 3) := dk_181 0 21 (dk_at dksJ13_init_2_1 5 rfl rfl)
theorem dJ13_init_2_30 : decode cJ13_init_2 30 = .ok (.return_, 1) := dk_177 (dk_at dksJ13_init_2_1 8 rfl rfl)
abbrev cJ13_size : ByteArray := prog_59_method_23_code
def yJ13_size : MethodName := ⟨RJ13, "size", "()I"⟩
theorem dJ13_size_0 : decode cJ13_size 0 = .ok (.aload_n 0, 1) := by decide +kernel
theorem dJ13_size_1 : decode cJ13_size 1 = .ok (.getfield 58, 3) := by decide +kernel
theorem dJ13_size_4 : decode cJ13_size 4 = .ok (.ireturn, 1) := by decide +kernel
abbrev cJ13_add : ByteArray := prog_59_method_13_code
def yJ13_add : MethodName := ⟨RJ13, "add", "(Ljava/lang/Object;)Z"⟩
def dkwJ13_add_0 : List UInt8 := [42, 43, 182, 0, 89, 172]
abbrev dktJ13_add_0 : List UInt8 := dkwJ13_add_0 ++ []
theorem dksJ13_add_0 : cJ13_add.data.toList.drop 0 = dktJ13_add_0 := by decide +kernel
theorem dJ13_add_0 : decode cJ13_add 0 = .ok (.aload_n 0, 1) := dk_42 (dk_at dksJ13_add_0 0 rfl rfl)
theorem dJ13_add_1 : decode cJ13_add 1 = .ok (.aload_n 1, 1) := dk_43 (dk_at dksJ13_add_0 1 rfl rfl)
theorem dJ13_add_2 : decode cJ13_add 2 = .ok (.invokevirtual 89, 3) := dk_182 0 89 (dk_at dksJ13_add_0 2 rfl rfl)
theorem dJ13_add_5 : decode cJ13_add 5 = .ok (.ireturn, 1) := dk_172 (dk_at dksJ13_add_0 5 rfl rfl)
abbrev cJ13_offer : ByteArray := prog_59_method_14_code
def yJ13_offer : MethodName := ⟨RJ13, "offer", "(Ljava/lang/Object;)Z"⟩
def dkwJ13_offer_2 : List UInt8 := [182, 0, 100, 42, 28, 4, 96, 181, 0, 58, 4, 172]
abbrev dktJ13_offer_2 : List UInt8 := dkwJ13_offer_2 ++ []
def dkwJ13_offer_1 : List UInt8 := [180, 0, 58, 61, 28, 42, 180, 0, 17, 190, 161, 0, 10, 42, 28, 4, 96, 182, 0, 96, 42, 28, 43]
abbrev dktJ13_offer_1 : List UInt8 := dkwJ13_offer_1 ++ dktJ13_offer_2
def dkwJ13_offer_0 : List UInt8 := [43, 199, 0, 11, 187, 0, 74, 89, 183, 0, 76, 191, 42, 89, 180, 0, 93, 4, 96, 181, 0, 93, 42]
abbrev dktJ13_offer_0 : List UInt8 := dkwJ13_offer_0 ++ dktJ13_offer_1
theorem dksJ13_offer_0 : cJ13_offer.data.toList.drop 0 = dktJ13_offer_0 := by decide +kernel
theorem dksJ13_offer_1 : cJ13_offer.data.toList.drop 23 = dktJ13_offer_1 := dk_seg dksJ13_offer_0 23 rfl rfl
theorem dksJ13_offer_2 : cJ13_offer.data.toList.drop 46 = dktJ13_offer_2 := dk_seg dksJ13_offer_1 23 rfl rfl
theorem dJ13_offer_0 : decode cJ13_offer 0 = .ok (.aload_n 1, 1) := dk_43 (dk_at dksJ13_offer_0 0 rfl rfl)
theorem dJ13_offer_1 : decode cJ13_offer 1 = .ok (.ifnonnull 11, 3) := dk_199 0 11 (dk_at dksJ13_offer_0 1 rfl rfl)
theorem dJ13_offer_4 : decode cJ13_offer 4 = .ok (.new 74, 3) := dk_187 0 74 (dk_at dksJ13_offer_0 4 rfl rfl)
theorem dJ13_offer_7 : decode cJ13_offer 7 = .ok (.dup, 1) := dk_89 (dk_at dksJ13_offer_0 7 rfl rfl)
theorem dJ13_offer_8 : decode cJ13_offer 8 = .ok (.invokespecial 76, 3) := dk_183 0 76 (dk_at dksJ13_offer_0 8 rfl rfl)
theorem dJ13_offer_11 : decode cJ13_offer 11 = .ok (.athrow, 1) := dk_191 (dk_at dksJ13_offer_0 11 rfl rfl)
theorem dJ13_offer_12 : decode cJ13_offer 12 = .ok (.aload_n 0, 1) := dk_42 (dk_at dksJ13_offer_0 12 rfl rfl)
theorem dJ13_offer_13 : decode cJ13_offer 13 = .ok (.dup, 1) := dk_89 (dk_at dksJ13_offer_0 13 rfl rfl)
theorem dJ13_offer_14 : decode cJ13_offer 14 = .ok (.getfield 93, 3) := dk_180 0 93 (dk_at dksJ13_offer_0 14 rfl rfl)
theorem dJ13_offer_17 : decode cJ13_offer 17 = .ok (.iconst 1, 1) := dk_4 (dk_at dksJ13_offer_0 17 rfl rfl)
theorem dJ13_offer_18 : decode cJ13_offer 18 = .ok (.iadd, 1) := dk_96 (dk_at dksJ13_offer_0 18 rfl rfl)
theorem dJ13_offer_19 : decode cJ13_offer 19 = .ok (.putfield 93, 3) := dk_181 0 93 (dk_at dksJ13_offer_0 19 rfl rfl)
theorem dJ13_offer_22 : decode cJ13_offer 22 = .ok (.aload_n 0, 1) := dk_42 (dk_at dksJ13_offer_0 22 rfl rfl)
theorem dJ13_offer_23 : decode cJ13_offer 23 = .ok (.getfield 58, 3) := dk_180 0 58 (dk_at dksJ13_offer_1 0 rfl rfl)
theorem dJ13_offer_26 : decode cJ13_offer 26 = .ok (.istore_n 2, 1) := dk_61 (dk_at dksJ13_offer_1 3 rfl rfl)
theorem dJ13_offer_27 : decode cJ13_offer 27 = .ok (.iload_n 2, 1) := dk_28 (dk_at dksJ13_offer_1 4 rfl rfl)
theorem dJ13_offer_28 : decode cJ13_offer 28 = .ok (.aload_n 0, 1) := dk_42 (dk_at dksJ13_offer_1 5 rfl rfl)
theorem dJ13_offer_29 : decode cJ13_offer 29 = .ok (.getfield 17, 3) := dk_180 0 17 (dk_at dksJ13_offer_1 6 rfl rfl)
theorem dJ13_offer_32 : decode cJ13_offer 32 = .ok (.arraylength, 1) := dk_190 (dk_at dksJ13_offer_1 9 rfl rfl)
theorem dJ13_offer_33 : decode cJ13_offer 33 = .ok (.if_icmp .lt 10, 3) := dk_161 0 10 (dk_at dksJ13_offer_1 10 rfl rfl)
theorem dJ13_offer_36 : decode cJ13_offer 36 = .ok (.aload_n 0, 1) := dk_42 (dk_at dksJ13_offer_1 13 rfl rfl)
theorem dJ13_offer_37 : decode cJ13_offer 37 = .ok (.iload_n 2, 1) := dk_28 (dk_at dksJ13_offer_1 14 rfl rfl)
theorem dJ13_offer_38 : decode cJ13_offer 38 = .ok (.iconst 1, 1) := dk_4 (dk_at dksJ13_offer_1 15 rfl rfl)
theorem dJ13_offer_39 : decode cJ13_offer 39 = .ok (.iadd, 1) := dk_96 (dk_at dksJ13_offer_1 16 rfl rfl)
theorem dJ13_offer_40 : decode cJ13_offer 40 = .ok (.invokevirtual 96, 3) := dk_182 0 96 (dk_at dksJ13_offer_1 17 rfl rfl)
theorem dJ13_offer_43 : decode cJ13_offer 43 = .ok (.aload_n 0, 1) := dk_42 (dk_at dksJ13_offer_1 20 rfl rfl)
theorem dJ13_offer_44 : decode cJ13_offer 44 = .ok (.iload_n 2, 1) := dk_28 (dk_at dksJ13_offer_1 21 rfl rfl)
theorem dJ13_offer_45 : decode cJ13_offer 45 = .ok (.aload_n 1, 1) := dk_43 (dk_at dksJ13_offer_1 22 rfl rfl)
theorem dJ13_offer_46 : decode cJ13_offer 46 = .ok (.invokevirtual 100, 3) := dk_182 0 100 (dk_at dksJ13_offer_2 0 rfl rfl)
theorem dJ13_offer_49 : decode cJ13_offer 49 = .ok (.aload_n 0, 1) := dk_42 (dk_at dksJ13_offer_2 3 rfl rfl)
theorem dJ13_offer_50 : decode cJ13_offer 50 = .ok (.iload_n 2, 1) := dk_28 (dk_at dksJ13_offer_2 4 rfl rfl)
theorem dJ13_offer_51 : decode cJ13_offer 51 = .ok (.iconst 1, 1) := dk_4 (dk_at dksJ13_offer_2 5 rfl rfl)
theorem dJ13_offer_52 : decode cJ13_offer 52 = .ok (.iadd, 1) := dk_96 (dk_at dksJ13_offer_2 6 rfl rfl)
theorem dJ13_offer_53 : decode cJ13_offer 53 = .ok (.putfield 58, 3) := dk_181 0 58 (dk_at dksJ13_offer_2 7 rfl rfl)
theorem dJ13_offer_56 : decode cJ13_offer 56 = .ok (.iconst 1, 1) := dk_4 (dk_at dksJ13_offer_2 10 rfl rfl)
theorem dJ13_offer_57 : decode cJ13_offer 57 = .ok (.ireturn, 1) := dk_172 (dk_at dksJ13_offer_2 11 rfl rfl)
abbrev cJ13_grow : ByteArray := prog_59_method_12_code
def yJ13_grow : MethodName := ⟨RJ13, "grow", "(I)V"⟩
def dkwJ13_grow_1 : List UInt8 := [122, 184, 0, 80, 62, 42, 42, 180, 0, 17, 29, 184, 0, 86, 181, 0, 17, 177]
abbrev dktJ13_grow_1 : List UInt8 := dkwJ13_grow_1 ++ []
def dkwJ13_grow_0 : List UInt8 := [42, 180, 0, 17, 190, 61, 28, 27, 28, 100, 28, 16, 64, 162, 0, 9, 28, 5, 96, 167, 0, 6, 28, 4]
abbrev dktJ13_grow_0 : List UInt8 := dkwJ13_grow_0 ++ dktJ13_grow_1
theorem dksJ13_grow_0 : cJ13_grow.data.toList.drop 0 = dktJ13_grow_0 := by decide +kernel
theorem dksJ13_grow_1 : cJ13_grow.data.toList.drop 24 = dktJ13_grow_1 := dk_seg dksJ13_grow_0 24 rfl rfl
theorem dJ13_grow_0 : decode cJ13_grow 0 = .ok (.aload_n 0, 1) := dk_42 (dk_at dksJ13_grow_0 0 rfl rfl)
theorem dJ13_grow_1 : decode cJ13_grow 1 = .ok (.getfield 17, 3) := dk_180 0 17 (dk_at dksJ13_grow_0 1 rfl rfl)
theorem dJ13_grow_4 : decode cJ13_grow 4 = .ok (.arraylength, 1) := dk_190 (dk_at dksJ13_grow_0 4 rfl rfl)
theorem dJ13_grow_5 : decode cJ13_grow 5 = .ok (.istore_n 2, 1) := dk_61 (dk_at dksJ13_grow_0 5 rfl rfl)
theorem dJ13_grow_6 : decode cJ13_grow 6 = .ok (.iload_n 2, 1) := dk_28 (dk_at dksJ13_grow_0 6 rfl rfl)
theorem dJ13_grow_7 : decode cJ13_grow 7 = .ok (.iload_n 1, 1) := dk_27 (dk_at dksJ13_grow_0 7 rfl rfl)
theorem dJ13_grow_8 : decode cJ13_grow 8 = .ok (.iload_n 2, 1) := dk_28 (dk_at dksJ13_grow_0 8 rfl rfl)
theorem dJ13_grow_9 : decode cJ13_grow 9 = .ok (.isub, 1) := dk_100 (dk_at dksJ13_grow_0 9 rfl rfl)
theorem dJ13_grow_10 : decode cJ13_grow 10 = .ok (.iload_n 2, 1) := dk_28 (dk_at dksJ13_grow_0 10 rfl rfl)
theorem dJ13_grow_11 : decode cJ13_grow 11 = .ok (.bipush 64, 2) := dk_16 64 (dk_at dksJ13_grow_0 11 rfl rfl)
theorem dJ13_grow_13 : decode cJ13_grow 13 = .ok (.if_icmp .ge 9, 3) := dk_162 0 9 (dk_at dksJ13_grow_0 13 rfl rfl)
theorem dJ13_grow_16 : decode cJ13_grow 16 = .ok (.iload_n 2, 1) := dk_28 (dk_at dksJ13_grow_0 16 rfl rfl)
theorem dJ13_grow_17 : decode cJ13_grow 17 = .ok (.iconst 2, 1) := dk_5 (dk_at dksJ13_grow_0 17 rfl rfl)
theorem dJ13_grow_18 : decode cJ13_grow 18 = .ok (.iadd, 1) := dk_96 (dk_at dksJ13_grow_0 18 rfl rfl)
theorem dJ13_grow_19 : decode cJ13_grow 19 = .ok (.goto 6, 3) := dk_167 0 6 (dk_at dksJ13_grow_0 19 rfl rfl)
theorem dJ13_grow_22 : decode cJ13_grow 22 = .ok (.iload_n 2, 1) := dk_28 (dk_at dksJ13_grow_0 22 rfl rfl)
theorem dJ13_grow_23 : decode cJ13_grow 23 = .ok (.iconst 1, 1) := dk_4 (dk_at dksJ13_grow_0 23 rfl rfl)
theorem dJ13_grow_24 : decode cJ13_grow 24 = .ok (.ishr, 1) := dk_122 (dk_at dksJ13_grow_1 0 rfl rfl)
theorem dJ13_grow_25 : decode cJ13_grow 25 = .ok (.invokestatic 80, 3) := dk_184 0 80 (dk_at dksJ13_grow_1 1 rfl rfl)
theorem dJ13_grow_28 : decode cJ13_grow 28 = .ok (.istore_n 3, 1) := dk_62 (dk_at dksJ13_grow_1 4 rfl rfl)
theorem dJ13_grow_29 : decode cJ13_grow 29 = .ok (.aload_n 0, 1) := dk_42 (dk_at dksJ13_grow_1 5 rfl rfl)
theorem dJ13_grow_30 : decode cJ13_grow 30 = .ok (.aload_n 0, 1) := dk_42 (dk_at dksJ13_grow_1 6 rfl rfl)
theorem dJ13_grow_31 : decode cJ13_grow 31 = .ok (.getfield 17, 3) := dk_180 0 17 (dk_at dksJ13_grow_1 7 rfl rfl)
theorem dJ13_grow_34 : decode cJ13_grow 34 = .ok (.iload_n 3, 1) := dk_29 (dk_at dksJ13_grow_1 10 rfl rfl)
theorem dJ13_grow_35 : decode cJ13_grow 35 = .ok (.invokestatic 86, 3) := dk_184 0 86 (dk_at dksJ13_grow_1 11 rfl rfl)
theorem dJ13_grow_38 : decode cJ13_grow 38 = .ok (.putfield 17, 3) := dk_181 0 17 (dk_at dksJ13_grow_1 14 rfl rfl)
theorem dJ13_grow_41 : decode cJ13_grow 41 = .ok (.return_, 1) := dk_177 (dk_at dksJ13_grow_1 17 rfl rfl)
abbrev cJ13_siftUp : ByteArray := prog_59_method_27_code
def yJ13_siftUp : MethodName := ⟨RJ13, "siftUp", "(ILjava/lang/Object;)V"⟩
def dkwJ13_siftUp_1 : List UInt8 := [44, 42, 180, 0, 17, 184, 0, 140, 177]
abbrev dktJ13_siftUp_1 : List UInt8 := dkwJ13_siftUp_1 ++ []
def dkwJ13_siftUp_0 : List UInt8 := [42, 180, 0, 21, 198, 0, 19, 27, 44, 42, 180, 0, 17, 42, 180, 0, 21, 184, 0, 136, 167, 0, 12, 27]
abbrev dktJ13_siftUp_0 : List UInt8 := dkwJ13_siftUp_0 ++ dktJ13_siftUp_1
theorem dksJ13_siftUp_0 : cJ13_siftUp.data.toList.drop 0 = dktJ13_siftUp_0 := by decide +kernel
theorem dksJ13_siftUp_1 : cJ13_siftUp.data.toList.drop 24 = dktJ13_siftUp_1 := dk_seg dksJ13_siftUp_0 24 rfl rfl
theorem dJ13_siftUp_0 : decode cJ13_siftUp 0 = .ok (.aload_n 0, 1) := dk_42 (dk_at dksJ13_siftUp_0 0 rfl rfl)
theorem dJ13_siftUp_1 : decode cJ13_siftUp 1 = .ok (.getfield 21, 3) := dk_180 0 21 (dk_at dksJ13_siftUp_0 1 rfl rfl)
theorem dJ13_siftUp_4 : decode cJ13_siftUp 4 = .ok (.ifnull 19, 3) := dk_198 0 19 (dk_at dksJ13_siftUp_0 4 rfl rfl)
theorem dJ13_siftUp_7 : decode cJ13_siftUp 7 = .ok (.iload_n 1, 1) := dk_27 (dk_at dksJ13_siftUp_0 7 rfl rfl)
theorem dJ13_siftUp_8 : decode cJ13_siftUp 8 = .ok (.aload_n 2, 1) := dk_44 (dk_at dksJ13_siftUp_0 8 rfl rfl)
theorem dJ13_siftUp_9 : decode cJ13_siftUp 9 = .ok (.aload_n 0, 1) := dk_42 (dk_at dksJ13_siftUp_0 9 rfl rfl)
theorem dJ13_siftUp_10 : decode cJ13_siftUp 10 = .ok (.getfield 17, 3) := dk_180 0 17 (dk_at dksJ13_siftUp_0 10 rfl rfl)
theorem dJ13_siftUp_13 : decode cJ13_siftUp 13 = .ok (.aload_n 0, 1) := dk_42 (dk_at dksJ13_siftUp_0 13 rfl rfl)
theorem dJ13_siftUp_14 : decode cJ13_siftUp 14 = .ok (.getfield 21, 3) := dk_180 0 21 (dk_at dksJ13_siftUp_0 14 rfl rfl)
theorem dJ13_siftUp_17 : decode cJ13_siftUp 17 = .ok (.invokestatic 136, 3) := dk_184 0 136 (dk_at dksJ13_siftUp_0 17 rfl rfl)
theorem dJ13_siftUp_20 : decode cJ13_siftUp 20 = .ok (.goto 12, 3) := dk_167 0 12 (dk_at dksJ13_siftUp_0 20 rfl rfl)
theorem dJ13_siftUp_23 : decode cJ13_siftUp 23 = .ok (.iload_n 1, 1) := dk_27 (dk_at dksJ13_siftUp_0 23 rfl rfl)
theorem dJ13_siftUp_24 : decode cJ13_siftUp 24 = .ok (.aload_n 2, 1) := dk_44 (dk_at dksJ13_siftUp_1 0 rfl rfl)
theorem dJ13_siftUp_25 : decode cJ13_siftUp 25 = .ok (.aload_n 0, 1) := dk_42 (dk_at dksJ13_siftUp_1 1 rfl rfl)
theorem dJ13_siftUp_26 : decode cJ13_siftUp 26 = .ok (.getfield 17, 3) := dk_180 0 17 (dk_at dksJ13_siftUp_1 2 rfl rfl)
theorem dJ13_siftUp_29 : decode cJ13_siftUp 29 = .ok (.invokestatic 140, 3) := dk_184 0 140 (dk_at dksJ13_siftUp_1 5 rfl rfl)
theorem dJ13_siftUp_32 : decode cJ13_siftUp 32 = .ok (.return_, 1) := dk_177 (dk_at dksJ13_siftUp_1 8 rfl rfl)
abbrev cJ13_siftUpUsingComparator : ByteArray := prog_59_method_29_code
def yJ13_siftUpUsingComparator : MethodName := ⟨RJ13, "siftUpUsingComparator", "(ILjava/lang/Object;[Ljava/lang/Object;Ljava/util/Comparator;)V"⟩
def dkwJ13_siftUpUsingComparator_2 : List UInt8 := [43, 83, 177]
abbrev dktJ13_siftUpUsingComparator_2 : List UInt8 := dkwJ13_siftUpUsingComparator_2 ++ []
def dkwJ13_siftUpUsingComparator_1 : List UInt8 := [185, 0, 149, 3, 0, 155, 0, 6, 167, 0, 14, 44, 26, 25, 5, 83, 21, 4, 59, 167, 255, 216, 44, 26]
abbrev dktJ13_siftUpUsingComparator_1 : List UInt8 := dkwJ13_siftUpUsingComparator_1 ++ dktJ13_siftUpUsingComparator_2
def dkwJ13_siftUpUsingComparator_0 : List UInt8 := [26, 158, 0, 42, 26, 4, 100, 4, 124, 54, 4, 44, 21, 4, 50, 58, 5, 45, 43, 25, 5]
abbrev dktJ13_siftUpUsingComparator_0 : List UInt8 := dkwJ13_siftUpUsingComparator_0 ++ dktJ13_siftUpUsingComparator_1
theorem dksJ13_siftUpUsingComparator_0 : cJ13_siftUpUsingComparator.data.toList.drop 0 = dktJ13_siftUpUsingComparator_0 := by decide +kernel
theorem dksJ13_siftUpUsingComparator_1 : cJ13_siftUpUsingComparator.data.toList.drop 21 = dktJ13_siftUpUsingComparator_1 := dk_seg dksJ13_siftUpUsingComparator_0 21 rfl rfl
theorem dksJ13_siftUpUsingComparator_2 : cJ13_siftUpUsingComparator.data.toList.drop 45 = dktJ13_siftUpUsingComparator_2 := dk_seg dksJ13_siftUpUsingComparator_1 24 rfl rfl
theorem dJ13_siftUpUsingComparator_0 : decode cJ13_siftUpUsingComparator 0 = .ok (.iload_n 0, 1) := dk_26 (dk_at dksJ13_siftUpUsingComparator_0 0 rfl rfl)
theorem dJ13_siftUpUsingComparator_1 : decode cJ13_siftUpUsingComparator 1 = .ok (.ifCond .le 42, 3) := dk_158 0 42 (dk_at dksJ13_siftUpUsingComparator_0 1 rfl rfl)
theorem dJ13_siftUpUsingComparator_4 : decode cJ13_siftUpUsingComparator 4 = .ok (.iload_n 0, 1) := dk_26 (dk_at dksJ13_siftUpUsingComparator_0 4 rfl rfl)
theorem dJ13_siftUpUsingComparator_5 : decode cJ13_siftUpUsingComparator 5 = .ok (.iconst 1, 1) := dk_4 (dk_at dksJ13_siftUpUsingComparator_0 5 rfl rfl)
theorem dJ13_siftUpUsingComparator_6 : decode cJ13_siftUpUsingComparator 6 = .ok (.isub, 1) := dk_100 (dk_at dksJ13_siftUpUsingComparator_0 6 rfl rfl)
theorem dJ13_siftUpUsingComparator_7 : decode cJ13_siftUpUsingComparator 7 = .ok (.iconst 1, 1) := dk_4 (dk_at dksJ13_siftUpUsingComparator_0 7 rfl rfl)
theorem dJ13_siftUpUsingComparator_8 : decode cJ13_siftUpUsingComparator 8 = .ok (.iushr, 1) := dk_124 (dk_at dksJ13_siftUpUsingComparator_0 8 rfl rfl)
theorem dJ13_siftUpUsingComparator_9 : decode cJ13_siftUpUsingComparator 9 = .ok (.istore 4, 2) := dk_54 4 (dk_at dksJ13_siftUpUsingComparator_0 9 rfl rfl)
theorem dJ13_siftUpUsingComparator_11 : decode cJ13_siftUpUsingComparator 11 = .ok (.aload_n 2, 1) := dk_44 (dk_at dksJ13_siftUpUsingComparator_0 11 rfl rfl)
theorem dJ13_siftUpUsingComparator_12 : decode cJ13_siftUpUsingComparator 12 = .ok (.iload 4, 2) := dk_21 4 (dk_at dksJ13_siftUpUsingComparator_0 12 rfl rfl)
theorem dJ13_siftUpUsingComparator_14 : decode cJ13_siftUpUsingComparator 14 = .ok (.aaload, 1) := dk_50 (dk_at dksJ13_siftUpUsingComparator_0 14 rfl rfl)
theorem dJ13_siftUpUsingComparator_15 : decode cJ13_siftUpUsingComparator 15 = .ok (.astore 5, 2) := dk_58 5 (dk_at dksJ13_siftUpUsingComparator_0 15 rfl rfl)
theorem dJ13_siftUpUsingComparator_17 : decode cJ13_siftUpUsingComparator 17 = .ok (.aload_n 3, 1) := dk_45 (dk_at dksJ13_siftUpUsingComparator_0 17 rfl rfl)
theorem dJ13_siftUpUsingComparator_18 : decode cJ13_siftUpUsingComparator 18 = .ok (.aload_n 1, 1) := dk_43 (dk_at dksJ13_siftUpUsingComparator_0 18 rfl rfl)
theorem dJ13_siftUpUsingComparator_19 : decode cJ13_siftUpUsingComparator 19 = .ok (.aload 5, 2) := dk_25 5 (dk_at dksJ13_siftUpUsingComparator_0 19 rfl rfl)
theorem dJ13_siftUpUsingComparator_21 : decode cJ13_siftUpUsingComparator 21 = .ok (.invokeinterface 149 3, 5) := by decide +kernel
theorem dJ13_siftUpUsingComparator_26 : decode cJ13_siftUpUsingComparator 26 = .ok (.ifCond .lt 6, 3) := dk_155 0 6 (dk_at dksJ13_siftUpUsingComparator_1 5 rfl rfl)
theorem dJ13_siftUpUsingComparator_29 : decode cJ13_siftUpUsingComparator 29 = .ok (.goto 14, 3) := dk_167 0 14 (dk_at dksJ13_siftUpUsingComparator_1 8 rfl rfl)
theorem dJ13_siftUpUsingComparator_32 : decode cJ13_siftUpUsingComparator 32 = .ok (.aload_n 2, 1) := dk_44 (dk_at dksJ13_siftUpUsingComparator_1 11 rfl rfl)
theorem dJ13_siftUpUsingComparator_33 : decode cJ13_siftUpUsingComparator 33 = .ok (.iload_n 0, 1) := dk_26 (dk_at dksJ13_siftUpUsingComparator_1 12 rfl rfl)
theorem dJ13_siftUpUsingComparator_34 : decode cJ13_siftUpUsingComparator 34 = .ok (.aload 5, 2) := dk_25 5 (dk_at dksJ13_siftUpUsingComparator_1 13 rfl rfl)
theorem dJ13_siftUpUsingComparator_36 : decode cJ13_siftUpUsingComparator 36 = .ok (.aastore, 1) := dk_83 (dk_at dksJ13_siftUpUsingComparator_1 15 rfl rfl)
theorem dJ13_siftUpUsingComparator_37 : decode cJ13_siftUpUsingComparator 37 = .ok (.iload 4, 2) := dk_21 4 (dk_at dksJ13_siftUpUsingComparator_1 16 rfl rfl)
theorem dJ13_siftUpUsingComparator_39 : decode cJ13_siftUpUsingComparator 39 = .ok (.istore_n 0, 1) := dk_59 (dk_at dksJ13_siftUpUsingComparator_1 18 rfl rfl)
theorem dJ13_siftUpUsingComparator_40 : decode cJ13_siftUpUsingComparator 40 = .ok (.goto (-40), 3) := dk_167 255 216 (dk_at dksJ13_siftUpUsingComparator_1 19 rfl rfl)
theorem dJ13_siftUpUsingComparator_43 : decode cJ13_siftUpUsingComparator 43 = .ok (.aload_n 2, 1) := dk_44 (dk_at dksJ13_siftUpUsingComparator_1 22 rfl rfl)
theorem dJ13_siftUpUsingComparator_44 : decode cJ13_siftUpUsingComparator 44 = .ok (.iload_n 0, 1) := dk_26 (dk_at dksJ13_siftUpUsingComparator_1 23 rfl rfl)
theorem dJ13_siftUpUsingComparator_45 : decode cJ13_siftUpUsingComparator 45 = .ok (.aload_n 1, 1) := dk_43 (dk_at dksJ13_siftUpUsingComparator_2 0 rfl rfl)
theorem dJ13_siftUpUsingComparator_46 : decode cJ13_siftUpUsingComparator 46 = .ok (.aastore, 1) := dk_83 (dk_at dksJ13_siftUpUsingComparator_2 1 rfl rfl)
theorem dJ13_siftUpUsingComparator_47 : decode cJ13_siftUpUsingComparator 47 = .ok (.return_, 1) := dk_177 (dk_at dksJ13_siftUpUsingComparator_2 2 rfl rfl)
abbrev cJ13_siftUpComparable : ByteArray := prog_59_method_28_code
def yJ13_siftUpComparable : MethodName := ⟨RJ13, "siftUpComparable", "(ILjava/lang/Object;[Ljava/lang/Object;)V"⟩
def dkwJ13_siftUpComparable_2 : List UInt8 := [44, 26, 45, 83, 177]
abbrev dktJ13_siftUpComparable_2 : List UInt8 := dkwJ13_siftUpComparable_2 ++ []
def dkwJ13_siftUpComparable_1 : List UInt8 := [25, 5, 185, 0, 146, 2, 0, 155, 0, 6, 167, 0, 14, 44, 26, 25, 5, 83, 21, 4, 59, 167, 255, 217]
abbrev dktJ13_siftUpComparable_1 : List UInt8 := dkwJ13_siftUpComparable_1 ++ dktJ13_siftUpComparable_2
def dkwJ13_siftUpComparable_0 : List UInt8 := [43, 192, 0, 144, 78, 26, 158, 0, 41, 26, 4, 100, 4, 124, 54, 4, 44, 21, 4, 50, 58, 5, 45]
abbrev dktJ13_siftUpComparable_0 : List UInt8 := dkwJ13_siftUpComparable_0 ++ dktJ13_siftUpComparable_1
theorem dksJ13_siftUpComparable_0 : cJ13_siftUpComparable.data.toList.drop 0 = dktJ13_siftUpComparable_0 := by decide +kernel
theorem dksJ13_siftUpComparable_1 : cJ13_siftUpComparable.data.toList.drop 23 = dktJ13_siftUpComparable_1 := dk_seg dksJ13_siftUpComparable_0 23 rfl rfl
theorem dksJ13_siftUpComparable_2 : cJ13_siftUpComparable.data.toList.drop 47 = dktJ13_siftUpComparable_2 := dk_seg dksJ13_siftUpComparable_1 24 rfl rfl
theorem dJ13_siftUpComparable_0 : decode cJ13_siftUpComparable 0 = .ok (.aload_n 1, 1) := dk_43 (dk_at dksJ13_siftUpComparable_0 0 rfl rfl)
theorem dJ13_siftUpComparable_1 : decode cJ13_siftUpComparable 1 = .ok (.checkcast 144, 3) := dk_192 0 144 (dk_at dksJ13_siftUpComparable_0 1 rfl rfl)
theorem dJ13_siftUpComparable_4 : decode cJ13_siftUpComparable 4 = .ok (.astore_n 3, 1) := dk_78 (dk_at dksJ13_siftUpComparable_0 4 rfl rfl)
theorem dJ13_siftUpComparable_5 : decode cJ13_siftUpComparable 5 = .ok (.iload_n 0, 1) := dk_26 (dk_at dksJ13_siftUpComparable_0 5 rfl rfl)
theorem dJ13_siftUpComparable_6 : decode cJ13_siftUpComparable 6 = .ok (.ifCond .le 41, 3) := dk_158 0 41 (dk_at dksJ13_siftUpComparable_0 6 rfl rfl)
theorem dJ13_siftUpComparable_9 : decode cJ13_siftUpComparable 9 = .ok (.iload_n 0, 1) := dk_26 (dk_at dksJ13_siftUpComparable_0 9 rfl rfl)
theorem dJ13_siftUpComparable_10 : decode cJ13_siftUpComparable 10 = .ok (.iconst 1, 1) := dk_4 (dk_at dksJ13_siftUpComparable_0 10 rfl rfl)
theorem dJ13_siftUpComparable_11 : decode cJ13_siftUpComparable 11 = .ok (.isub, 1) := dk_100 (dk_at dksJ13_siftUpComparable_0 11 rfl rfl)
theorem dJ13_siftUpComparable_12 : decode cJ13_siftUpComparable 12 = .ok (.iconst 1, 1) := dk_4 (dk_at dksJ13_siftUpComparable_0 12 rfl rfl)
theorem dJ13_siftUpComparable_13 : decode cJ13_siftUpComparable 13 = .ok (.iushr, 1) := dk_124 (dk_at dksJ13_siftUpComparable_0 13 rfl rfl)
theorem dJ13_siftUpComparable_14 : decode cJ13_siftUpComparable 14 = .ok (.istore 4, 2) := dk_54 4 (dk_at dksJ13_siftUpComparable_0 14 rfl rfl)
theorem dJ13_siftUpComparable_16 : decode cJ13_siftUpComparable 16 = .ok (.aload_n 2, 1) := dk_44 (dk_at dksJ13_siftUpComparable_0 16 rfl rfl)
theorem dJ13_siftUpComparable_17 : decode cJ13_siftUpComparable 17 = .ok (.iload 4, 2) := dk_21 4 (dk_at dksJ13_siftUpComparable_0 17 rfl rfl)
theorem dJ13_siftUpComparable_19 : decode cJ13_siftUpComparable 19 = .ok (.aaload, 1) := dk_50 (dk_at dksJ13_siftUpComparable_0 19 rfl rfl)
theorem dJ13_siftUpComparable_20 : decode cJ13_siftUpComparable 20 = .ok (.astore 5, 2) := dk_58 5 (dk_at dksJ13_siftUpComparable_0 20 rfl rfl)
theorem dJ13_siftUpComparable_22 : decode cJ13_siftUpComparable 22 = .ok (.aload_n 3, 1) := dk_45 (dk_at dksJ13_siftUpComparable_0 22 rfl rfl)
theorem dJ13_siftUpComparable_23 : decode cJ13_siftUpComparable 23 = .ok (.aload 5, 2) := dk_25 5 (dk_at dksJ13_siftUpComparable_1 0 rfl rfl)
theorem dJ13_siftUpComparable_25 : decode cJ13_siftUpComparable 25 = .ok (.invokeinterface 146 2, 5) := by decide +kernel
theorem dJ13_siftUpComparable_30 : decode cJ13_siftUpComparable 30 = .ok (.ifCond .lt 6, 3) := dk_155 0 6 (dk_at dksJ13_siftUpComparable_1 7 rfl rfl)
theorem dJ13_siftUpComparable_33 : decode cJ13_siftUpComparable 33 = .ok (.goto 14, 3) := dk_167 0 14 (dk_at dksJ13_siftUpComparable_1 10 rfl rfl)
theorem dJ13_siftUpComparable_36 : decode cJ13_siftUpComparable 36 = .ok (.aload_n 2, 1) := dk_44 (dk_at dksJ13_siftUpComparable_1 13 rfl rfl)
theorem dJ13_siftUpComparable_37 : decode cJ13_siftUpComparable 37 = .ok (.iload_n 0, 1) := dk_26 (dk_at dksJ13_siftUpComparable_1 14 rfl rfl)
theorem dJ13_siftUpComparable_38 : decode cJ13_siftUpComparable 38 = .ok (.aload 5, 2) := dk_25 5 (dk_at dksJ13_siftUpComparable_1 15 rfl rfl)
theorem dJ13_siftUpComparable_40 : decode cJ13_siftUpComparable 40 = .ok (.aastore, 1) := dk_83 (dk_at dksJ13_siftUpComparable_1 17 rfl rfl)
theorem dJ13_siftUpComparable_41 : decode cJ13_siftUpComparable 41 = .ok (.iload 4, 2) := dk_21 4 (dk_at dksJ13_siftUpComparable_1 18 rfl rfl)
theorem dJ13_siftUpComparable_43 : decode cJ13_siftUpComparable 43 = .ok (.istore_n 0, 1) := dk_59 (dk_at dksJ13_siftUpComparable_1 20 rfl rfl)
theorem dJ13_siftUpComparable_44 : decode cJ13_siftUpComparable 44 = .ok (.goto (-39), 3) := dk_167 255 217 (dk_at dksJ13_siftUpComparable_1 21 rfl rfl)
theorem dJ13_siftUpComparable_47 : decode cJ13_siftUpComparable 47 = .ok (.aload_n 2, 1) := dk_44 (dk_at dksJ13_siftUpComparable_2 0 rfl rfl)
theorem dJ13_siftUpComparable_48 : decode cJ13_siftUpComparable 48 = .ok (.iload_n 0, 1) := dk_26 (dk_at dksJ13_siftUpComparable_2 1 rfl rfl)
theorem dJ13_siftUpComparable_49 : decode cJ13_siftUpComparable 49 = .ok (.aload_n 3, 1) := dk_45 (dk_at dksJ13_siftUpComparable_2 2 rfl rfl)
theorem dJ13_siftUpComparable_50 : decode cJ13_siftUpComparable 50 = .ok (.aastore, 1) := dk_83 (dk_at dksJ13_siftUpComparable_2 3 rfl rfl)
theorem dJ13_siftUpComparable_51 : decode cJ13_siftUpComparable 51 = .ok (.return_, 1) := dk_177 (dk_at dksJ13_siftUpComparable_2 4 rfl rfl)
abbrev cJ13_poll : ByteArray := prog_59_method_25_code
def yJ13_poll : MethodName := ⟨RJ13, "poll", "()Ljava/lang/Object;"⟩
def dkwJ13_poll_3 : List UInt8 := [43, 29, 25, 5, 184, 0, 129, 44, 176]
abbrev dktJ13_poll_3 : List UInt8 := dkwJ13_poll_3 ++ []
def dkwJ13_poll_2 : List UInt8 := [42, 180, 0, 21, 89, 58, 5, 199, 0, 14, 3, 25, 4, 43, 29, 184, 0, 125, 167, 0, 13, 3, 25, 4]
abbrev dktJ13_poll_2 : List UInt8 := dkwJ13_poll_2 ++ dktJ13_poll_3
def dkwJ13_poll_1 : List UInt8 := [42, 89, 180, 0, 58, 4, 100, 90, 181, 0, 58, 89, 62, 50, 58, 4, 43, 29, 1, 83, 29, 158, 0, 34]
abbrev dktJ13_poll_1 : List UInt8 := dkwJ13_poll_1 ++ dktJ13_poll_2
def dkwJ13_poll_0 : List UInt8 := [42, 180, 0, 17, 89, 76, 3, 50, 89, 77, 198, 0, 69, 42, 89, 180, 0, 93, 4, 96, 181, 0, 93, 43]
abbrev dktJ13_poll_0 : List UInt8 := dkwJ13_poll_0 ++ dktJ13_poll_1
theorem dksJ13_poll_0 : cJ13_poll.data.toList.drop 0 = dktJ13_poll_0 := by decide +kernel
theorem dksJ13_poll_1 : cJ13_poll.data.toList.drop 24 = dktJ13_poll_1 := dk_seg dksJ13_poll_0 24 rfl rfl
theorem dksJ13_poll_2 : cJ13_poll.data.toList.drop 48 = dktJ13_poll_2 := dk_seg dksJ13_poll_1 24 rfl rfl
theorem dksJ13_poll_3 : cJ13_poll.data.toList.drop 72 = dktJ13_poll_3 := dk_seg dksJ13_poll_2 24 rfl rfl
theorem dJ13_poll_0 : decode cJ13_poll 0 = .ok (.aload_n 0, 1) := dk_42 (dk_at dksJ13_poll_0 0 rfl rfl)
theorem dJ13_poll_1 : decode cJ13_poll 1 = .ok (.getfield 17, 3) := dk_180 0 17 (dk_at dksJ13_poll_0 1 rfl rfl)
theorem dJ13_poll_4 : decode cJ13_poll 4 = .ok (.dup, 1) := dk_89 (dk_at dksJ13_poll_0 4 rfl rfl)
theorem dJ13_poll_5 : decode cJ13_poll 5 = .ok (.astore_n 1, 1) := dk_76 (dk_at dksJ13_poll_0 5 rfl rfl)
theorem dJ13_poll_6 : decode cJ13_poll 6 = .ok (.iconst 0, 1) := dk_3 (dk_at dksJ13_poll_0 6 rfl rfl)
theorem dJ13_poll_7 : decode cJ13_poll 7 = .ok (.aaload, 1) := dk_50 (dk_at dksJ13_poll_0 7 rfl rfl)
theorem dJ13_poll_8 : decode cJ13_poll 8 = .ok (.dup, 1) := dk_89 (dk_at dksJ13_poll_0 8 rfl rfl)
theorem dJ13_poll_9 : decode cJ13_poll 9 = .ok (.astore_n 2, 1) := dk_77 (dk_at dksJ13_poll_0 9 rfl rfl)
theorem dJ13_poll_10 : decode cJ13_poll 10 = .ok (.ifnull 69, 3) := dk_198 0 69 (dk_at dksJ13_poll_0 10 rfl rfl)
theorem dJ13_poll_13 : decode cJ13_poll 13 = .ok (.aload_n 0, 1) := dk_42 (dk_at dksJ13_poll_0 13 rfl rfl)
theorem dJ13_poll_14 : decode cJ13_poll 14 = .ok (.dup, 1) := dk_89 (dk_at dksJ13_poll_0 14 rfl rfl)
theorem dJ13_poll_15 : decode cJ13_poll 15 = .ok (.getfield 93, 3) := dk_180 0 93 (dk_at dksJ13_poll_0 15 rfl rfl)
theorem dJ13_poll_18 : decode cJ13_poll 18 = .ok (.iconst 1, 1) := dk_4 (dk_at dksJ13_poll_0 18 rfl rfl)
theorem dJ13_poll_19 : decode cJ13_poll 19 = .ok (.iadd, 1) := dk_96 (dk_at dksJ13_poll_0 19 rfl rfl)
theorem dJ13_poll_20 : decode cJ13_poll 20 = .ok (.putfield 93, 3) := dk_181 0 93 (dk_at dksJ13_poll_0 20 rfl rfl)
theorem dJ13_poll_23 : decode cJ13_poll 23 = .ok (.aload_n 1, 1) := dk_43 (dk_at dksJ13_poll_0 23 rfl rfl)
theorem dJ13_poll_24 : decode cJ13_poll 24 = .ok (.aload_n 0, 1) := dk_42 (dk_at dksJ13_poll_1 0 rfl rfl)
theorem dJ13_poll_25 : decode cJ13_poll 25 = .ok (.dup, 1) := dk_89 (dk_at dksJ13_poll_1 1 rfl rfl)
theorem dJ13_poll_26 : decode cJ13_poll 26 = .ok (.getfield 58, 3) := dk_180 0 58 (dk_at dksJ13_poll_1 2 rfl rfl)
theorem dJ13_poll_29 : decode cJ13_poll 29 = .ok (.iconst 1, 1) := dk_4 (dk_at dksJ13_poll_1 5 rfl rfl)
theorem dJ13_poll_30 : decode cJ13_poll 30 = .ok (.isub, 1) := dk_100 (dk_at dksJ13_poll_1 6 rfl rfl)
theorem dJ13_poll_31 : decode cJ13_poll 31 = .ok (.dup_x1, 1) := dk_90 (dk_at dksJ13_poll_1 7 rfl rfl)
theorem dJ13_poll_32 : decode cJ13_poll 32 = .ok (.putfield 58, 3) := dk_181 0 58 (dk_at dksJ13_poll_1 8 rfl rfl)
theorem dJ13_poll_35 : decode cJ13_poll 35 = .ok (.dup, 1) := dk_89 (dk_at dksJ13_poll_1 11 rfl rfl)
theorem dJ13_poll_36 : decode cJ13_poll 36 = .ok (.istore_n 3, 1) := dk_62 (dk_at dksJ13_poll_1 12 rfl rfl)
theorem dJ13_poll_37 : decode cJ13_poll 37 = .ok (.aaload, 1) := dk_50 (dk_at dksJ13_poll_1 13 rfl rfl)
theorem dJ13_poll_38 : decode cJ13_poll 38 = .ok (.astore 4, 2) := dk_58 4 (dk_at dksJ13_poll_1 14 rfl rfl)
theorem dJ13_poll_40 : decode cJ13_poll 40 = .ok (.aload_n 1, 1) := dk_43 (dk_at dksJ13_poll_1 16 rfl rfl)
theorem dJ13_poll_41 : decode cJ13_poll 41 = .ok (.iload_n 3, 1) := dk_29 (dk_at dksJ13_poll_1 17 rfl rfl)
theorem dJ13_poll_42 : decode cJ13_poll 42 = .ok (.aconst_null, 1) := dk_1 (dk_at dksJ13_poll_1 18 rfl rfl)
theorem dJ13_poll_43 : decode cJ13_poll 43 = .ok (.aastore, 1) := dk_83 (dk_at dksJ13_poll_1 19 rfl rfl)
theorem dJ13_poll_44 : decode cJ13_poll 44 = .ok (.iload_n 3, 1) := dk_29 (dk_at dksJ13_poll_1 20 rfl rfl)
theorem dJ13_poll_45 : decode cJ13_poll 45 = .ok (.ifCond .le 34, 3) := dk_158 0 34 (dk_at dksJ13_poll_1 21 rfl rfl)
theorem dJ13_poll_48 : decode cJ13_poll 48 = .ok (.aload_n 0, 1) := dk_42 (dk_at dksJ13_poll_2 0 rfl rfl)
theorem dJ13_poll_49 : decode cJ13_poll 49 = .ok (.getfield 21, 3) := dk_180 0 21 (dk_at dksJ13_poll_2 1 rfl rfl)
theorem dJ13_poll_52 : decode cJ13_poll 52 = .ok (.dup, 1) := dk_89 (dk_at dksJ13_poll_2 4 rfl rfl)
theorem dJ13_poll_53 : decode cJ13_poll 53 = .ok (.astore 5, 2) := dk_58 5 (dk_at dksJ13_poll_2 5 rfl rfl)
theorem dJ13_poll_55 : decode cJ13_poll 55 = .ok (.ifnonnull 14, 3) := dk_199 0 14 (dk_at dksJ13_poll_2 7 rfl rfl)
theorem dJ13_poll_58 : decode cJ13_poll 58 = .ok (.iconst 0, 1) := dk_3 (dk_at dksJ13_poll_2 10 rfl rfl)
theorem dJ13_poll_59 : decode cJ13_poll 59 = .ok (.aload 4, 2) := dk_25 4 (dk_at dksJ13_poll_2 11 rfl rfl)
theorem dJ13_poll_61 : decode cJ13_poll 61 = .ok (.aload_n 1, 1) := dk_43 (dk_at dksJ13_poll_2 13 rfl rfl)
theorem dJ13_poll_62 : decode cJ13_poll 62 = .ok (.iload_n 3, 1) := dk_29 (dk_at dksJ13_poll_2 14 rfl rfl)
theorem dJ13_poll_63 : decode cJ13_poll 63 = .ok (.invokestatic 125, 3) := dk_184 0 125 (dk_at dksJ13_poll_2 15 rfl rfl)
theorem dJ13_poll_66 : decode cJ13_poll 66 = .ok (.goto 13, 3) := dk_167 0 13 (dk_at dksJ13_poll_2 18 rfl rfl)
theorem dJ13_poll_69 : decode cJ13_poll 69 = .ok (.iconst 0, 1) := dk_3 (dk_at dksJ13_poll_2 21 rfl rfl)
theorem dJ13_poll_70 : decode cJ13_poll 70 = .ok (.aload 4, 2) := dk_25 4 (dk_at dksJ13_poll_2 22 rfl rfl)
theorem dJ13_poll_72 : decode cJ13_poll 72 = .ok (.aload_n 1, 1) := dk_43 (dk_at dksJ13_poll_3 0 rfl rfl)
theorem dJ13_poll_73 : decode cJ13_poll 73 = .ok (.iload_n 3, 1) := dk_29 (dk_at dksJ13_poll_3 1 rfl rfl)
theorem dJ13_poll_74 : decode cJ13_poll 74 = .ok (.aload 5, 2) := dk_25 5 (dk_at dksJ13_poll_3 2 rfl rfl)
theorem dJ13_poll_76 : decode cJ13_poll 76 = .ok (.invokestatic 129, 3) := dk_184 0 129 (dk_at dksJ13_poll_3 4 rfl rfl)
theorem dJ13_poll_79 : decode cJ13_poll 79 = .ok (.aload_n 2, 1) := dk_44 (dk_at dksJ13_poll_3 7 rfl rfl)
theorem dJ13_poll_80 : decode cJ13_poll 80 = .ok (.areturn, 1) := dk_176 (dk_at dksJ13_poll_3 8 rfl rfl)
abbrev cJ13_siftDownComparable : ByteArray := prog_59_method_31_code
def yJ13_siftDownComparable : MethodName := ⟨RJ13, "siftDownComparable", "(ILjava/lang/Object;[Ljava/lang/Object;I)V"⟩
def dkwJ13_siftDownComparable_4 : List UInt8 := [25, 4, 83, 177]
abbrev dktJ13_siftDownComparable_4 : List UInt8 := dkwJ13_siftDownComparable_4 ++ []
def dkwJ13_siftDownComparable_3 : List UInt8 := [185, 0, 146, 2, 0, 157, 0, 6, 167, 0, 14, 44, 26, 25, 7, 83, 21, 6, 59, 167, 255, 176, 44, 26]
abbrev dktJ13_siftDownComparable_3 : List UInt8 := dkwJ13_siftDownComparable_3 ++ dktJ13_siftDownComparable_4
def dkwJ13_siftDownComparable_2 : List UInt8 := [21, 8, 50, 185, 0, 146, 2, 0, 158, 0, 12, 44, 21, 8, 89, 54, 6, 50, 58, 7, 25, 4, 25, 7]
abbrev dktJ13_siftDownComparable_2 : List UInt8 := dkwJ13_siftDownComparable_2 ++ dktJ13_siftDownComparable_3
def dkwJ13_siftDownComparable_1 : List UInt8 := [44, 21, 6, 50, 58, 7, 21, 6, 4, 96, 54, 8, 21, 8, 29, 162, 0, 29, 25, 7, 192, 0, 144, 44]
abbrev dktJ13_siftDownComparable_1 : List UInt8 := dkwJ13_siftDownComparable_1 ++ dktJ13_siftDownComparable_2
def dkwJ13_siftDownComparable_0 : List UInt8 := [43, 192, 0, 144, 58, 4, 29, 4, 124, 54, 5, 26, 21, 5, 162, 0, 80, 26, 4, 120, 4, 96, 54, 6]
abbrev dktJ13_siftDownComparable_0 : List UInt8 := dkwJ13_siftDownComparable_0 ++ dktJ13_siftDownComparable_1
theorem dksJ13_siftDownComparable_0 : cJ13_siftDownComparable.data.toList.drop 0 = dktJ13_siftDownComparable_0 := by decide +kernel
theorem dksJ13_siftDownComparable_1 : cJ13_siftDownComparable.data.toList.drop 24 = dktJ13_siftDownComparable_1 := dk_seg dksJ13_siftDownComparable_0 24 rfl rfl
theorem dksJ13_siftDownComparable_2 : cJ13_siftDownComparable.data.toList.drop 48 = dktJ13_siftDownComparable_2 := dk_seg dksJ13_siftDownComparable_1 24 rfl rfl
theorem dksJ13_siftDownComparable_3 : cJ13_siftDownComparable.data.toList.drop 72 = dktJ13_siftDownComparable_3 := dk_seg dksJ13_siftDownComparable_2 24 rfl rfl
theorem dksJ13_siftDownComparable_4 : cJ13_siftDownComparable.data.toList.drop 96 = dktJ13_siftDownComparable_4 := dk_seg dksJ13_siftDownComparable_3 24 rfl rfl
theorem dJ13_siftDownComparable_0 : decode cJ13_siftDownComparable 0 = .ok (.aload_n 1, 1) := dk_43 (dk_at dksJ13_siftDownComparable_0 0 rfl rfl)
theorem dJ13_siftDownComparable_1 : decode cJ13_siftDownComparable 1 = .ok (.checkcast 144, 3) := dk_192 0 144 (dk_at dksJ13_siftDownComparable_0 1 rfl rfl)
theorem dJ13_siftDownComparable_4 : decode cJ13_siftDownComparable 4 = .ok (.astore 4, 2) := dk_58 4 (dk_at dksJ13_siftDownComparable_0 4 rfl rfl)
theorem dJ13_siftDownComparable_6 : decode cJ13_siftDownComparable 6 = .ok (.iload_n 3, 1) := dk_29 (dk_at dksJ13_siftDownComparable_0 6 rfl rfl)
theorem dJ13_siftDownComparable_7 : decode cJ13_siftDownComparable 7 = .ok (.iconst 1, 1) := dk_4 (dk_at dksJ13_siftDownComparable_0 7 rfl rfl)
theorem dJ13_siftDownComparable_8 : decode cJ13_siftDownComparable 8 = .ok (.iushr, 1) := dk_124 (dk_at dksJ13_siftDownComparable_0 8 rfl rfl)
theorem dJ13_siftDownComparable_9 : decode cJ13_siftDownComparable 9 = .ok (.istore 5, 2) := dk_54 5 (dk_at dksJ13_siftDownComparable_0 9 rfl rfl)
theorem dJ13_siftDownComparable_11 : decode cJ13_siftDownComparable 11 = .ok (.iload_n 0, 1) := dk_26 (dk_at dksJ13_siftDownComparable_0 11 rfl rfl)
theorem dJ13_siftDownComparable_12 : decode cJ13_siftDownComparable 12 = .ok (.iload 5, 2) := dk_21 5 (dk_at dksJ13_siftDownComparable_0 12 rfl rfl)
theorem dJ13_siftDownComparable_14 : decode cJ13_siftDownComparable 14 = .ok (.if_icmp .ge 80, 3) := dk_162 0 80 (dk_at dksJ13_siftDownComparable_0 14 rfl rfl)
theorem dJ13_siftDownComparable_17 : decode cJ13_siftDownComparable 17 = .ok (.iload_n 0, 1) := dk_26 (dk_at dksJ13_siftDownComparable_0 17 rfl rfl)
theorem dJ13_siftDownComparable_18 : decode cJ13_siftDownComparable 18 = .ok (.iconst 1, 1) := dk_4 (dk_at dksJ13_siftDownComparable_0 18 rfl rfl)
theorem dJ13_siftDownComparable_19 : decode cJ13_siftDownComparable 19 = .ok (.ishl, 1) := dk_120 (dk_at dksJ13_siftDownComparable_0 19 rfl rfl)
theorem dJ13_siftDownComparable_20 : decode cJ13_siftDownComparable 20 = .ok (.iconst 1, 1) := dk_4 (dk_at dksJ13_siftDownComparable_0 20 rfl rfl)
theorem dJ13_siftDownComparable_21 : decode cJ13_siftDownComparable 21 = .ok (.iadd, 1) := dk_96 (dk_at dksJ13_siftDownComparable_0 21 rfl rfl)
theorem dJ13_siftDownComparable_22 : decode cJ13_siftDownComparable 22 = .ok (.istore 6, 2) := dk_54 6 (dk_at dksJ13_siftDownComparable_0 22 rfl rfl)
theorem dJ13_siftDownComparable_24 : decode cJ13_siftDownComparable 24 = .ok (.aload_n 2, 1) := dk_44 (dk_at dksJ13_siftDownComparable_1 0 rfl rfl)
theorem dJ13_siftDownComparable_25 : decode cJ13_siftDownComparable 25 = .ok (.iload 6, 2) := dk_21 6 (dk_at dksJ13_siftDownComparable_1 1 rfl rfl)
theorem dJ13_siftDownComparable_27 : decode cJ13_siftDownComparable 27 = .ok (.aaload, 1) := dk_50 (dk_at dksJ13_siftDownComparable_1 3 rfl rfl)
theorem dJ13_siftDownComparable_28 : decode cJ13_siftDownComparable 28 = .ok (.astore 7, 2) := dk_58 7 (dk_at dksJ13_siftDownComparable_1 4 rfl rfl)
theorem dJ13_siftDownComparable_30 : decode cJ13_siftDownComparable 30 = .ok (.iload 6, 2) := dk_21 6 (dk_at dksJ13_siftDownComparable_1 6 rfl rfl)
theorem dJ13_siftDownComparable_32 : decode cJ13_siftDownComparable 32 = .ok (.iconst 1, 1) := dk_4 (dk_at dksJ13_siftDownComparable_1 8 rfl rfl)
theorem dJ13_siftDownComparable_33 : decode cJ13_siftDownComparable 33 = .ok (.iadd, 1) := dk_96 (dk_at dksJ13_siftDownComparable_1 9 rfl rfl)
theorem dJ13_siftDownComparable_34 : decode cJ13_siftDownComparable 34 = .ok (.istore 8, 2) := dk_54 8 (dk_at dksJ13_siftDownComparable_1 10 rfl rfl)
theorem dJ13_siftDownComparable_36 : decode cJ13_siftDownComparable 36 = .ok (.iload 8, 2) := dk_21 8 (dk_at dksJ13_siftDownComparable_1 12 rfl rfl)
theorem dJ13_siftDownComparable_38 : decode cJ13_siftDownComparable 38 = .ok (.iload_n 3, 1) := dk_29 (dk_at dksJ13_siftDownComparable_1 14 rfl rfl)
theorem dJ13_siftDownComparable_39 : decode cJ13_siftDownComparable 39 = .ok (.if_icmp .ge 29, 3) := dk_162 0 29 (dk_at dksJ13_siftDownComparable_1 15 rfl rfl)
theorem dJ13_siftDownComparable_42 : decode cJ13_siftDownComparable 42 = .ok (.aload 7, 2) := dk_25 7 (dk_at dksJ13_siftDownComparable_1 18 rfl rfl)
theorem dJ13_siftDownComparable_44 : decode cJ13_siftDownComparable 44 = .ok (.checkcast 144, 3) := dk_192 0 144 (dk_at dksJ13_siftDownComparable_1 20 rfl rfl)
theorem dJ13_siftDownComparable_47 : decode cJ13_siftDownComparable 47 = .ok (.aload_n 2, 1) := dk_44 (dk_at dksJ13_siftDownComparable_1 23 rfl rfl)
theorem dJ13_siftDownComparable_48 : decode cJ13_siftDownComparable 48 = .ok (.iload 8, 2) := dk_21 8 (dk_at dksJ13_siftDownComparable_2 0 rfl rfl)
theorem dJ13_siftDownComparable_50 : decode cJ13_siftDownComparable 50 = .ok (.aaload, 1) := dk_50 (dk_at dksJ13_siftDownComparable_2 2 rfl rfl)
theorem dJ13_siftDownComparable_51 : decode cJ13_siftDownComparable 51 = .ok (.invokeinterface 146 2, 5) := by decide +kernel
theorem dJ13_siftDownComparable_56 : decode cJ13_siftDownComparable 56 = .ok (.ifCond .le 12, 3) := dk_158 0 12 (dk_at dksJ13_siftDownComparable_2 8 rfl rfl)
theorem dJ13_siftDownComparable_59 : decode cJ13_siftDownComparable 59 = .ok (.aload_n 2, 1) := dk_44 (dk_at dksJ13_siftDownComparable_2 11 rfl rfl)
theorem dJ13_siftDownComparable_60 : decode cJ13_siftDownComparable 60 = .ok (.iload 8, 2) := dk_21 8 (dk_at dksJ13_siftDownComparable_2 12 rfl rfl)
theorem dJ13_siftDownComparable_62 : decode cJ13_siftDownComparable 62 = .ok (.dup, 1) := dk_89 (dk_at dksJ13_siftDownComparable_2 14 rfl rfl)
theorem dJ13_siftDownComparable_63 : decode cJ13_siftDownComparable 63 = .ok (.istore 6, 2) := dk_54 6 (dk_at dksJ13_siftDownComparable_2 15 rfl rfl)
theorem dJ13_siftDownComparable_65 : decode cJ13_siftDownComparable 65 = .ok (.aaload, 1) := dk_50 (dk_at dksJ13_siftDownComparable_2 17 rfl rfl)
theorem dJ13_siftDownComparable_66 : decode cJ13_siftDownComparable 66 = .ok (.astore 7, 2) := dk_58 7 (dk_at dksJ13_siftDownComparable_2 18 rfl rfl)
theorem dJ13_siftDownComparable_68 : decode cJ13_siftDownComparable 68 = .ok (.aload 4, 2) := dk_25 4 (dk_at dksJ13_siftDownComparable_2 20 rfl rfl)
theorem dJ13_siftDownComparable_70 : decode cJ13_siftDownComparable 70 = .ok (.aload 7, 2) := dk_25 7 (dk_at dksJ13_siftDownComparable_2 22 rfl rfl)
theorem dJ13_siftDownComparable_72 : decode cJ13_siftDownComparable 72 = .ok (.invokeinterface 146 2, 5) := by decide +kernel
theorem dJ13_siftDownComparable_77 : decode cJ13_siftDownComparable 77 = .ok (.ifCond .gt 6, 3) := dk_157 0 6 (dk_at dksJ13_siftDownComparable_3 5 rfl rfl)
theorem dJ13_siftDownComparable_80 : decode cJ13_siftDownComparable 80 = .ok (.goto 14, 3) := dk_167 0 14 (dk_at dksJ13_siftDownComparable_3 8 rfl rfl)
theorem dJ13_siftDownComparable_83 : decode cJ13_siftDownComparable 83 = .ok (.aload_n 2, 1) := dk_44 (dk_at dksJ13_siftDownComparable_3 11 rfl rfl)
theorem dJ13_siftDownComparable_84 : decode cJ13_siftDownComparable 84 = .ok (.iload_n 0, 1) := dk_26 (dk_at dksJ13_siftDownComparable_3 12 rfl rfl)
theorem dJ13_siftDownComparable_85 : decode cJ13_siftDownComparable 85 = .ok (.aload 7, 2) := dk_25 7 (dk_at dksJ13_siftDownComparable_3 13 rfl rfl)
theorem dJ13_siftDownComparable_87 : decode cJ13_siftDownComparable 87 = .ok (.aastore, 1) := dk_83 (dk_at dksJ13_siftDownComparable_3 15 rfl rfl)
theorem dJ13_siftDownComparable_88 : decode cJ13_siftDownComparable 88 = .ok (.iload 6, 2) := dk_21 6 (dk_at dksJ13_siftDownComparable_3 16 rfl rfl)
theorem dJ13_siftDownComparable_90 : decode cJ13_siftDownComparable 90 = .ok (.istore_n 0, 1) := dk_59 (dk_at dksJ13_siftDownComparable_3 18 rfl rfl)
theorem dJ13_siftDownComparable_91 : decode cJ13_siftDownComparable 91 = .ok (.goto (-80), 3) := dk_167 255 176 (dk_at dksJ13_siftDownComparable_3 19 rfl rfl)
theorem dJ13_siftDownComparable_94 : decode cJ13_siftDownComparable 94 = .ok (.aload_n 2, 1) := dk_44 (dk_at dksJ13_siftDownComparable_3 22 rfl rfl)
theorem dJ13_siftDownComparable_95 : decode cJ13_siftDownComparable 95 = .ok (.iload_n 0, 1) := dk_26 (dk_at dksJ13_siftDownComparable_3 23 rfl rfl)
theorem dJ13_siftDownComparable_96 : decode cJ13_siftDownComparable 96 = .ok (.aload 4, 2) := dk_25 4 (dk_at dksJ13_siftDownComparable_4 0 rfl rfl)
theorem dJ13_siftDownComparable_98 : decode cJ13_siftDownComparable 98 = .ok (.aastore, 1) := dk_83 (dk_at dksJ13_siftDownComparable_4 2 rfl rfl)
theorem dJ13_siftDownComparable_99 : decode cJ13_siftDownComparable 99 = .ok (.return_, 1) := dk_177 (dk_at dksJ13_siftDownComparable_4 3 rfl rfl)
abbrev cJ13_siftDownUsingComparator : ByteArray := prog_59_method_32_code
def yJ13_siftDownUsingComparator : MethodName := ⟨RJ13, "siftDownUsingComparator", "(ILjava/lang/Object;[Ljava/lang/Object;ILjava/util/Comparator;)V"⟩
def dkwJ13_siftDownUsingComparator_4 : List UInt8 := [43, 83, 177]
abbrev dktJ13_siftDownUsingComparator_4 : List UInt8 := dkwJ13_siftDownUsingComparator_4 ++ []
def dkwJ13_siftDownUsingComparator_3 : List UInt8 := [185, 0, 149, 3, 0, 157, 0, 6, 167, 0, 14, 44, 26, 25, 7, 83, 21, 6, 59, 167, 255, 176, 44, 26]
abbrev dktJ13_siftDownUsingComparator_3 : List UInt8 := dkwJ13_siftDownUsingComparator_3 ++ dktJ13_siftDownUsingComparator_4
def dkwJ13_siftDownUsingComparator_2 : List UInt8 := [185, 0, 149, 3, 0, 158, 0, 12, 44, 21, 8, 89, 54, 6, 50, 58, 7, 25, 4, 43, 25, 7]
abbrev dktJ13_siftDownUsingComparator_2 : List UInt8 := dkwJ13_siftDownUsingComparator_2 ++ dktJ13_siftDownUsingComparator_3
def dkwJ13_siftDownUsingComparator_1 : List UInt8 := [21, 6, 4, 96, 54, 8, 21, 8, 29, 162, 0, 28, 25, 4, 25, 7, 44, 21, 8, 50]
abbrev dktJ13_siftDownUsingComparator_1 : List UInt8 := dkwJ13_siftDownUsingComparator_1 ++ dktJ13_siftDownUsingComparator_2
def dkwJ13_siftDownUsingComparator_0 : List UInt8 := [29, 4, 124, 54, 5, 26, 21, 5, 162, 0, 80, 26, 4, 120, 4, 96, 54, 6, 44, 21, 6, 50, 58, 7]
abbrev dktJ13_siftDownUsingComparator_0 : List UInt8 := dkwJ13_siftDownUsingComparator_0 ++ dktJ13_siftDownUsingComparator_1
theorem dksJ13_siftDownUsingComparator_0 : cJ13_siftDownUsingComparator.data.toList.drop 0 = dktJ13_siftDownUsingComparator_0 := by decide +kernel
theorem dksJ13_siftDownUsingComparator_1 : cJ13_siftDownUsingComparator.data.toList.drop 24 = dktJ13_siftDownUsingComparator_1 := dk_seg dksJ13_siftDownUsingComparator_0 24 rfl rfl
theorem dksJ13_siftDownUsingComparator_2 : cJ13_siftDownUsingComparator.data.toList.drop 44 = dktJ13_siftDownUsingComparator_2 := dk_seg dksJ13_siftDownUsingComparator_1 20 rfl rfl
theorem dksJ13_siftDownUsingComparator_3 : cJ13_siftDownUsingComparator.data.toList.drop 66 = dktJ13_siftDownUsingComparator_3 := dk_seg dksJ13_siftDownUsingComparator_2 22 rfl rfl
theorem dksJ13_siftDownUsingComparator_4 : cJ13_siftDownUsingComparator.data.toList.drop 90 = dktJ13_siftDownUsingComparator_4 := dk_seg dksJ13_siftDownUsingComparator_3 24 rfl rfl
theorem dJ13_siftDownUsingComparator_0 : decode cJ13_siftDownUsingComparator 0 = .ok (.iload_n 3, 1) := dk_29 (dk_at dksJ13_siftDownUsingComparator_0 0 rfl rfl)
theorem dJ13_siftDownUsingComparator_1 : decode cJ13_siftDownUsingComparator 1 = .ok (.iconst 1, 1) := dk_4 (dk_at dksJ13_siftDownUsingComparator_0 1 rfl rfl)
theorem dJ13_siftDownUsingComparator_2 : decode cJ13_siftDownUsingComparator 2 = .ok (.iushr, 1) := dk_124 (dk_at dksJ13_siftDownUsingComparator_0 2 rfl rfl)
theorem dJ13_siftDownUsingComparator_3 : decode cJ13_siftDownUsingComparator 3 = .ok (.istore 5, 2) := dk_54 5 (dk_at dksJ13_siftDownUsingComparator_0 3 rfl rfl)
theorem dJ13_siftDownUsingComparator_5 : decode cJ13_siftDownUsingComparator 5 = .ok (.iload_n 0, 1) := dk_26 (dk_at dksJ13_siftDownUsingComparator_0 5 rfl rfl)
theorem dJ13_siftDownUsingComparator_6 : decode cJ13_siftDownUsingComparator 6 = .ok (.iload 5, 2) := dk_21 5 (dk_at dksJ13_siftDownUsingComparator_0 6 rfl rfl)
theorem dJ13_siftDownUsingComparator_8 : decode cJ13_siftDownUsingComparator 8 = .ok (.if_icmp .ge 80, 3) := dk_162 0 80 (dk_at dksJ13_siftDownUsingComparator_0 8 rfl rfl)
theorem dJ13_siftDownUsingComparator_11 : decode cJ13_siftDownUsingComparator 11 = .ok (.iload_n 0, 1) := dk_26 (dk_at dksJ13_siftDownUsingComparator_0 11 rfl rfl)
theorem dJ13_siftDownUsingComparator_12 : decode cJ13_siftDownUsingComparator 12 = .ok (.iconst 1, 1) := dk_4 (dk_at dksJ13_siftDownUsingComparator_0 12 rfl rfl)
theorem dJ13_siftDownUsingComparator_13 : decode cJ13_siftDownUsingComparator 13 = .ok (.ishl, 1) := dk_120 (dk_at dksJ13_siftDownUsingComparator_0 13 rfl rfl)
theorem dJ13_siftDownUsingComparator_14 : decode cJ13_siftDownUsingComparator 14 = .ok (.iconst 1, 1) := dk_4 (dk_at dksJ13_siftDownUsingComparator_0 14 rfl rfl)
theorem dJ13_siftDownUsingComparator_15 : decode cJ13_siftDownUsingComparator 15 = .ok (.iadd, 1) := dk_96 (dk_at dksJ13_siftDownUsingComparator_0 15 rfl rfl)
theorem dJ13_siftDownUsingComparator_16 : decode cJ13_siftDownUsingComparator 16 = .ok (.istore 6, 2) := dk_54 6 (dk_at dksJ13_siftDownUsingComparator_0 16 rfl rfl)
theorem dJ13_siftDownUsingComparator_18 : decode cJ13_siftDownUsingComparator 18 = .ok (.aload_n 2, 1) := dk_44 (dk_at dksJ13_siftDownUsingComparator_0 18 rfl rfl)
theorem dJ13_siftDownUsingComparator_19 : decode cJ13_siftDownUsingComparator 19 = .ok (.iload 6, 2) := dk_21 6 (dk_at dksJ13_siftDownUsingComparator_0 19 rfl rfl)
theorem dJ13_siftDownUsingComparator_21 : decode cJ13_siftDownUsingComparator 21 = .ok (.aaload, 1) := dk_50 (dk_at dksJ13_siftDownUsingComparator_0 21 rfl rfl)
theorem dJ13_siftDownUsingComparator_22 : decode cJ13_siftDownUsingComparator 22 = .ok (.astore 7, 2) := dk_58 7 (dk_at dksJ13_siftDownUsingComparator_0 22 rfl rfl)
theorem dJ13_siftDownUsingComparator_24 : decode cJ13_siftDownUsingComparator 24 = .ok (.iload 6, 2) := dk_21 6 (dk_at dksJ13_siftDownUsingComparator_1 0 rfl rfl)
theorem dJ13_siftDownUsingComparator_26 : decode cJ13_siftDownUsingComparator 26 = .ok (.iconst 1, 1) := dk_4 (dk_at dksJ13_siftDownUsingComparator_1 2 rfl rfl)
theorem dJ13_siftDownUsingComparator_27 : decode cJ13_siftDownUsingComparator 27 = .ok (.iadd, 1) := dk_96 (dk_at dksJ13_siftDownUsingComparator_1 3 rfl rfl)
theorem dJ13_siftDownUsingComparator_28 : decode cJ13_siftDownUsingComparator 28 = .ok (.istore 8, 2) := dk_54 8 (dk_at dksJ13_siftDownUsingComparator_1 4 rfl rfl)
theorem dJ13_siftDownUsingComparator_30 : decode cJ13_siftDownUsingComparator 30 = .ok (.iload 8, 2) := dk_21 8 (dk_at dksJ13_siftDownUsingComparator_1 6 rfl rfl)
theorem dJ13_siftDownUsingComparator_32 : decode cJ13_siftDownUsingComparator 32 = .ok (.iload_n 3, 1) := dk_29 (dk_at dksJ13_siftDownUsingComparator_1 8 rfl rfl)
theorem dJ13_siftDownUsingComparator_33 : decode cJ13_siftDownUsingComparator 33 = .ok (.if_icmp .ge 28, 3) := dk_162 0 28 (dk_at dksJ13_siftDownUsingComparator_1 9 rfl rfl)
theorem dJ13_siftDownUsingComparator_36 : decode cJ13_siftDownUsingComparator 36 = .ok (.aload 4, 2) := dk_25 4 (dk_at dksJ13_siftDownUsingComparator_1 12 rfl rfl)
theorem dJ13_siftDownUsingComparator_38 : decode cJ13_siftDownUsingComparator 38 = .ok (.aload 7, 2) := dk_25 7 (dk_at dksJ13_siftDownUsingComparator_1 14 rfl rfl)
theorem dJ13_siftDownUsingComparator_40 : decode cJ13_siftDownUsingComparator 40 = .ok (.aload_n 2, 1) := dk_44 (dk_at dksJ13_siftDownUsingComparator_1 16 rfl rfl)
theorem dJ13_siftDownUsingComparator_41 : decode cJ13_siftDownUsingComparator 41 = .ok (.iload 8, 2) := dk_21 8 (dk_at dksJ13_siftDownUsingComparator_1 17 rfl rfl)
theorem dJ13_siftDownUsingComparator_43 : decode cJ13_siftDownUsingComparator 43 = .ok (.aaload, 1) := dk_50 (dk_at dksJ13_siftDownUsingComparator_1 19 rfl rfl)
theorem dJ13_siftDownUsingComparator_44 : decode cJ13_siftDownUsingComparator 44 = .ok (.invokeinterface 149 3, 5) := by decide +kernel
theorem dJ13_siftDownUsingComparator_49 : decode cJ13_siftDownUsingComparator 49 = .ok (.ifCond .le 12, 3) := dk_158 0 12 (dk_at dksJ13_siftDownUsingComparator_2 5 rfl rfl)
theorem dJ13_siftDownUsingComparator_52 : decode cJ13_siftDownUsingComparator 52 = .ok (.aload_n 2, 1) := dk_44 (dk_at dksJ13_siftDownUsingComparator_2 8 rfl rfl)
theorem dJ13_siftDownUsingComparator_53 : decode cJ13_siftDownUsingComparator 53 = .ok (.iload 8, 2) := dk_21 8 (dk_at dksJ13_siftDownUsingComparator_2 9 rfl rfl)
theorem dJ13_siftDownUsingComparator_55 : decode cJ13_siftDownUsingComparator 55 = .ok (.dup, 1) := dk_89 (dk_at dksJ13_siftDownUsingComparator_2 11 rfl rfl)
theorem dJ13_siftDownUsingComparator_56 : decode cJ13_siftDownUsingComparator 56 = .ok (.istore 6, 2) := dk_54 6 (dk_at dksJ13_siftDownUsingComparator_2 12 rfl rfl)
theorem dJ13_siftDownUsingComparator_58 : decode cJ13_siftDownUsingComparator 58 = .ok (.aaload, 1) := dk_50 (dk_at dksJ13_siftDownUsingComparator_2 14 rfl rfl)
theorem dJ13_siftDownUsingComparator_59 : decode cJ13_siftDownUsingComparator 59 = .ok (.astore 7, 2) := dk_58 7 (dk_at dksJ13_siftDownUsingComparator_2 15 rfl rfl)
theorem dJ13_siftDownUsingComparator_61 : decode cJ13_siftDownUsingComparator 61 = .ok (.aload 4, 2) := dk_25 4 (dk_at dksJ13_siftDownUsingComparator_2 17 rfl rfl)
theorem dJ13_siftDownUsingComparator_63 : decode cJ13_siftDownUsingComparator 63 = .ok (.aload_n 1, 1) := dk_43 (dk_at dksJ13_siftDownUsingComparator_2 19 rfl rfl)
theorem dJ13_siftDownUsingComparator_64 : decode cJ13_siftDownUsingComparator 64 = .ok (.aload 7, 2) := dk_25 7 (dk_at dksJ13_siftDownUsingComparator_2 20 rfl rfl)
theorem dJ13_siftDownUsingComparator_66 : decode cJ13_siftDownUsingComparator 66 = .ok (.invokeinterface 149 3, 5) := by decide +kernel
theorem dJ13_siftDownUsingComparator_71 : decode cJ13_siftDownUsingComparator 71 = .ok (.ifCond .gt 6, 3) := dk_157 0 6 (dk_at dksJ13_siftDownUsingComparator_3 5 rfl rfl)
theorem dJ13_siftDownUsingComparator_74 : decode cJ13_siftDownUsingComparator 74 = .ok (.goto 14, 3) := dk_167 0 14 (dk_at dksJ13_siftDownUsingComparator_3 8 rfl rfl)
theorem dJ13_siftDownUsingComparator_77 : decode cJ13_siftDownUsingComparator 77 = .ok (.aload_n 2, 1) := dk_44 (dk_at dksJ13_siftDownUsingComparator_3 11 rfl rfl)
theorem dJ13_siftDownUsingComparator_78 : decode cJ13_siftDownUsingComparator 78 = .ok (.iload_n 0, 1) := dk_26 (dk_at dksJ13_siftDownUsingComparator_3 12 rfl rfl)
theorem dJ13_siftDownUsingComparator_79 : decode cJ13_siftDownUsingComparator 79 = .ok (.aload 7, 2) := dk_25 7 (dk_at dksJ13_siftDownUsingComparator_3 13 rfl rfl)
theorem dJ13_siftDownUsingComparator_81 : decode cJ13_siftDownUsingComparator 81 = .ok (.aastore, 1) := dk_83 (dk_at dksJ13_siftDownUsingComparator_3 15 rfl rfl)
theorem dJ13_siftDownUsingComparator_82 : decode cJ13_siftDownUsingComparator 82 = .ok (.iload 6, 2) := dk_21 6 (dk_at dksJ13_siftDownUsingComparator_3 16 rfl rfl)
theorem dJ13_siftDownUsingComparator_84 : decode cJ13_siftDownUsingComparator 84 = .ok (.istore_n 0, 1) := dk_59 (dk_at dksJ13_siftDownUsingComparator_3 18 rfl rfl)
theorem dJ13_siftDownUsingComparator_85 : decode cJ13_siftDownUsingComparator 85 = .ok (.goto (-80), 3) := dk_167 255 176 (dk_at dksJ13_siftDownUsingComparator_3 19 rfl rfl)
theorem dJ13_siftDownUsingComparator_88 : decode cJ13_siftDownUsingComparator 88 = .ok (.aload_n 2, 1) := dk_44 (dk_at dksJ13_siftDownUsingComparator_3 22 rfl rfl)
theorem dJ13_siftDownUsingComparator_89 : decode cJ13_siftDownUsingComparator 89 = .ok (.iload_n 0, 1) := dk_26 (dk_at dksJ13_siftDownUsingComparator_3 23 rfl rfl)
theorem dJ13_siftDownUsingComparator_90 : decode cJ13_siftDownUsingComparator 90 = .ok (.aload_n 1, 1) := dk_43 (dk_at dksJ13_siftDownUsingComparator_4 0 rfl rfl)
theorem dJ13_siftDownUsingComparator_91 : decode cJ13_siftDownUsingComparator 91 = .ok (.aastore, 1) := dk_83 (dk_at dksJ13_siftDownUsingComparator_4 1 rfl rfl)
theorem dJ13_siftDownUsingComparator_92 : decode cJ13_siftDownUsingComparator 92 = .ok (.return_, 1) := dk_177 (dk_at dksJ13_siftDownUsingComparator_4 2 rfl rfl)
abbrev cJ13_toArray : ByteArray := prog_59_method_20_code
def yJ13_toArray : MethodName := ⟨RJ13, "toArray", "()[Ljava/lang/Object;"⟩
def dkwJ13_toArray_0 : List UInt8 := [42, 180, 0, 17, 42, 180, 0, 58, 184, 0, 86, 176]
abbrev dktJ13_toArray_0 : List UInt8 := dkwJ13_toArray_0 ++ []
theorem dksJ13_toArray_0 : cJ13_toArray.data.toList.drop 0 = dktJ13_toArray_0 := by decide +kernel
theorem dJ13_toArray_0 : decode cJ13_toArray 0 = .ok (.aload_n 0, 1) := dk_42 (dk_at dksJ13_toArray_0 0 rfl rfl)
theorem dJ13_toArray_1 : decode cJ13_toArray 1 = .ok (.getfield 17, 3) := dk_180 0 17 (dk_at dksJ13_toArray_0 1 rfl rfl)
theorem dJ13_toArray_4 : decode cJ13_toArray 4 = .ok (.aload_n 0, 1) := dk_42 (dk_at dksJ13_toArray_0 4 rfl rfl)
theorem dJ13_toArray_5 : decode cJ13_toArray 5 = .ok (.getfield 58, 3) := dk_180 0 58 (dk_at dksJ13_toArray_0 5 rfl rfl)
theorem dJ13_toArray_8 : decode cJ13_toArray 8 = .ok (.invokestatic 86, 3) := dk_184 0 86 (dk_at dksJ13_toArray_0 8 rfl rfl)
theorem dJ13_toArray_11 : decode cJ13_toArray 11 = .ok (.areturn, 1) := dk_176 (dk_at dksJ13_toArray_0 11 rfl rfl)
theorem q59 : (Jvm.Cond.initialized "java/util/PriorityQueue") ∈ lw_all := lw_g (lw_at lw_m1 20 rfl) rfl
theorem q451 : (Jvm.Cond.instantiable "java/util/PriorityQueue" (4 : Nat)) ∈ lw_all := lw_g (lw_at lw_m2 172 rfl) rfl
theorem q453 : (Jvm.Cond.instanceMethod ({ cls := "java/util/PriorityQueue", name := "<init>", desc := "()V" } : Jvm.MethodName)) ∈ lw_all := lw_g (lw_at lw_m2 174 rfl) rfl
theorem q454 : (Jvm.Cond.code ({ cls := "java/util/PriorityQueue", name := "<init>", desc := "()V" } : Jvm.MethodName) prog_59_method_1_code (1 : Nat) (Option.none : Option Jvm.ClassFile.FieldType)) ∈ lw_all := lw_g (lw_at lw_m2 175 rfl) rfl
theorem q455 : (Jvm.Cond.methodLink "java/util/PriorityQueue" (3 : Nat) ({ cls := "java/util/PriorityQueue", name := "<init>", desc := "(ILjava/util/Comparator;)V" } : Jvm.MethodName)) ∈ lw_all := lw_g (lw_at lw_m2 176 rfl) rfl
theorem q456 : (Jvm.Cond.instanceMethod ({ cls := "java/util/PriorityQueue", name := "<init>", desc := "(ILjava/util/Comparator;)V" } : Jvm.MethodName)) ∈ lw_all := lw_g (lw_at lw_m2 177 rfl) rfl
theorem q457 : (Jvm.Cond.code ({ cls := "java/util/PriorityQueue", name := "<init>", desc := "(ILjava/util/Comparator;)V" } : Jvm.MethodName) prog_59_method_4_code (3 : Nat) (Option.none : Option Jvm.ClassFile.FieldType)) ∈ lw_all := lw_g (lw_at lw_m2 178 rfl) rfl
theorem q458 : (Jvm.Cond.methodLink "java/util/PriorityQueue" (7 : Nat) ({ cls := "java/util/AbstractQueue", name := "<init>", desc := "()V" } : Jvm.MethodName)) ∈ lw_all := lw_g (lw_at lw_m2 179 rfl) rfl
theorem q462 : (Jvm.Cond.classLink "java/util/PriorityQueue" (12 : Nat) "java/lang/IllegalArgumentException") ∈ lw_all := lw_g (lw_at lw_m2 183 rfl) rfl
theorem q463 : (Jvm.Cond.methodLink "java/util/PriorityQueue" (14 : Nat) ({ cls := "java/lang/IllegalArgumentException", name := "<init>", desc := "()V" } : Jvm.MethodName)) ∈ lw_all := lw_g (lw_at lw_m2 184 rfl) rfl
theorem q464 : (Jvm.Cond.classLink "java/util/PriorityQueue" (15 : Nat) "java/lang/Object") ∈ lw_all := lw_g (lw_at lw_m2 185 rfl) rfl
theorem q466 : (Jvm.Cond.fieldLink "java/util/PriorityQueue" (17 : Nat) "java/util/PriorityQueue" "queue" "[Ljava/lang/Object;") ∈ lw_all := lw_g (lw_at lw_m2 187 rfl) rfl
theorem q467 : (Jvm.Cond.fieldLink "java/util/PriorityQueue" (58 : Nat) "java/util/PriorityQueue" "size" "I") ∈ lw_all := lw_g (lw_at lw_m2 188 rfl) rfl
theorem q468 : (Jvm.Cond.fieldLink "java/util/PriorityQueue" (21 : Nat) "java/util/PriorityQueue" "comparator" "Ljava/util/Comparator;") ∈ lw_all := lw_g (lw_at lw_m2 189 rfl) rfl
theorem q469 : (Jvm.Cond.fieldLink "java/util/PriorityQueue" (93 : Nat) "java/util/PriorityQueue" "modCount" "I") ∈ lw_all := lw_g (lw_at lw_m2 190 rfl) rfl
theorem q470 : (Jvm.Cond.lays "java/util/PriorityQueue" "java/util/PriorityQueue" "queue" "[Ljava/lang/Object;") ∈ lw_all := lw_g (lw_at lw_m2 191 rfl) rfl
theorem q471 : (Jvm.Cond.soleField "java/util/PriorityQueue" "queue") ∈ lw_all := lw_g (lw_at lw_m2 192 rfl) rfl
theorem q472 : (Jvm.Cond.lays "java/util/PriorityQueue" "java/util/PriorityQueue" "size" "I") ∈ lw_all := lw_g (lw_at lw_m2 193 rfl) rfl
theorem q473 : (Jvm.Cond.soleField "java/util/PriorityQueue" "size") ∈ lw_all := lw_g (lw_at lw_m2 194 rfl) rfl
theorem q474 : (Jvm.Cond.laysFinal "java/util/PriorityQueue" "java/util/PriorityQueue" "comparator" "Ljava/util/Comparator;") ∈ lw_all := lw_g (lw_at lw_m2 195 rfl) rfl
theorem q475 : (Jvm.Cond.soleField "java/util/PriorityQueue" "comparator") ∈ lw_all := lw_g (lw_at lw_m2 196 rfl) rfl
theorem q476 : (Jvm.Cond.lays "java/util/PriorityQueue" "java/util/PriorityQueue" "modCount" "I") ∈ lw_all := lw_g (lw_at lw_m2 197 rfl) rfl
theorem q477 : (Jvm.Cond.soleField "java/util/PriorityQueue" "modCount") ∈ lw_all := lw_g (lw_at lw_m2 198 rfl) rfl
theorem q478 : (Jvm.Cond.superclass "java/util/PriorityQueue" "java/util/AbstractQueue") ∈ lw_all := lw_g (lw_at lw_m2 199 rfl) rfl
theorem q588 : (Jvm.Cond.selects "java/util/PriorityQueue" ({ cls := "java/lang/Object", name := "getClass", desc := "()Ljava/lang/Class;" } : Jvm.MethodName) ({ cls := "java/lang/Object", name := "getClass", desc := "()Ljava/lang/Class;" } : Jvm.MethodName)) ∈ lw_all := lw_g (lw_at lw_m3 69 rfl) rfl
theorem q1146 : (Jvm.Cond.instanceMethod ({ cls := "java/util/PriorityQueue", name := "size", desc := "()I" } : Jvm.MethodName)) ∈ lw_all := lw_g (lw_at lw_m5 147 rfl) rfl
theorem q1147 : (Jvm.Cond.selects "java/util/PriorityQueue" ({ cls := "java/util/PriorityQueue", name := "size", desc := "()I" } : Jvm.MethodName) ({ cls := "java/util/PriorityQueue", name := "size", desc := "()I" } : Jvm.MethodName)) ∈ lw_all := lw_g (lw_at lw_m5 148 rfl) rfl
theorem q1148 : (Jvm.Cond.code ({ cls := "java/util/PriorityQueue", name := "size", desc := "()I" } : Jvm.MethodName) prog_59_method_23_code (1 : Nat) (Option.some Jvm.ClassFile.FieldType.int)) ∈ lw_all := lw_g (lw_at lw_m5 149 rfl) rfl
theorem q1150 : (Jvm.Cond.instanceMethod ({ cls := "java/util/PriorityQueue", name := "add", desc := "(Ljava/lang/Object;)Z" } : Jvm.MethodName)) ∈ lw_all := lw_g (lw_at lw_m5 151 rfl) rfl
theorem q1151 : (Jvm.Cond.selects "java/util/PriorityQueue" ({ cls := "java/util/PriorityQueue", name := "add", desc := "(Ljava/lang/Object;)Z" } : Jvm.MethodName) ({ cls := "java/util/PriorityQueue", name := "add", desc := "(Ljava/lang/Object;)Z" } : Jvm.MethodName)) ∈ lw_all := lw_g (lw_at lw_m5 152 rfl) rfl
theorem q1152 : (Jvm.Cond.code ({ cls := "java/util/PriorityQueue", name := "add", desc := "(Ljava/lang/Object;)Z" } : Jvm.MethodName) prog_59_method_13_code (2 : Nat) (Option.some Jvm.ClassFile.FieldType.boolean)) ∈ lw_all := lw_g (lw_at lw_m5 153 rfl) rfl
theorem q1153 : (Jvm.Cond.methodLink "java/util/PriorityQueue" (89 : Nat) ({ cls := "java/util/PriorityQueue", name := "offer", desc := "(Ljava/lang/Object;)Z" } : Jvm.MethodName)) ∈ lw_all := lw_g (lw_at lw_m5 154 rfl) rfl
theorem q1154 : (Jvm.Cond.instanceMethod ({ cls := "java/util/PriorityQueue", name := "offer", desc := "(Ljava/lang/Object;)Z" } : Jvm.MethodName)) ∈ lw_all := lw_g (lw_at lw_m5 155 rfl) rfl
theorem q1155 : (Jvm.Cond.selects "java/util/PriorityQueue" ({ cls := "java/util/PriorityQueue", name := "offer", desc := "(Ljava/lang/Object;)Z" } : Jvm.MethodName) ({ cls := "java/util/PriorityQueue", name := "offer", desc := "(Ljava/lang/Object;)Z" } : Jvm.MethodName)) ∈ lw_all := lw_g (lw_at lw_m5 156 rfl) rfl
theorem q1156 : (Jvm.Cond.code ({ cls := "java/util/PriorityQueue", name := "offer", desc := "(Ljava/lang/Object;)Z" } : Jvm.MethodName) prog_59_method_14_code (3 : Nat) (Option.some Jvm.ClassFile.FieldType.boolean)) ∈ lw_all := lw_g (lw_at lw_m5 157 rfl) rfl
theorem q1157 : (Jvm.Cond.methodLink "java/util/PriorityQueue" (96 : Nat) ({ cls := "java/util/PriorityQueue", name := "grow", desc := "(I)V" } : Jvm.MethodName)) ∈ lw_all := lw_g (lw_at lw_m5 158 rfl) rfl
theorem q1158 : (Jvm.Cond.privateMethod ({ cls := "java/util/PriorityQueue", name := "grow", desc := "(I)V" } : Jvm.MethodName)) ∈ lw_tbl := lw_at lw_m5 159 rfl
theorem q1159 : (Jvm.Cond.instanceMethod ({ cls := "java/util/PriorityQueue", name := "grow", desc := "(I)V" } : Jvm.MethodName)) ∈ lw_all := lw_g (lw_at lw_m5 160 rfl) rfl
theorem q1160 : (Jvm.Cond.code ({ cls := "java/util/PriorityQueue", name := "grow", desc := "(I)V" } : Jvm.MethodName) prog_59_method_12_code (4 : Nat) (Option.none : Option Jvm.ClassFile.FieldType)) ∈ lw_all := lw_g (lw_at lw_m5 161 rfl) rfl
theorem q1161 : (Jvm.Cond.methodLink "java/util/PriorityQueue" (80 : Nat) ({ cls := "jdk/internal/util/ArraysSupport", name := "newLength", desc := "(III)I" } : Jvm.MethodName)) ∈ lw_all := lw_g (lw_at lw_m5 162 rfl) rfl
theorem q1162 : (Jvm.Cond.methodLink "java/util/PriorityQueue" (86 : Nat) ({ cls := "java/util/Arrays", name := "copyOf", desc := "([Ljava/lang/Object;I)[Ljava/lang/Object;" } : Jvm.MethodName)) ∈ lw_all := lw_g (lw_at lw_m5 163 rfl) rfl
theorem q1163 : (Jvm.Cond.methodLink "java/util/PriorityQueue" (100 : Nat) ({ cls := "java/util/PriorityQueue", name := "siftUp", desc := "(ILjava/lang/Object;)V" } : Jvm.MethodName)) ∈ lw_all := lw_g (lw_at lw_m5 164 rfl) rfl
theorem q1164 : (Jvm.Cond.privateMethod ({ cls := "java/util/PriorityQueue", name := "siftUp", desc := "(ILjava/lang/Object;)V" } : Jvm.MethodName)) ∈ lw_tbl := lw_at lw_m5 165 rfl
theorem q1165 : (Jvm.Cond.instanceMethod ({ cls := "java/util/PriorityQueue", name := "siftUp", desc := "(ILjava/lang/Object;)V" } : Jvm.MethodName)) ∈ lw_all := lw_g (lw_at lw_m5 166 rfl) rfl
theorem q1166 : (Jvm.Cond.code ({ cls := "java/util/PriorityQueue", name := "siftUp", desc := "(ILjava/lang/Object;)V" } : Jvm.MethodName) prog_59_method_27_code (3 : Nat) (Option.none : Option Jvm.ClassFile.FieldType)) ∈ lw_all := lw_g (lw_at lw_m5 167 rfl) rfl
theorem q1167 : (Jvm.Cond.methodLink "java/util/PriorityQueue" (136 : Nat) ({ cls := "java/util/PriorityQueue", name := "siftUpUsingComparator", desc := "(ILjava/lang/Object;[Ljava/lang/Object;Ljava/util/Comparator;)V" } : Jvm.MethodName)) ∈ lw_all := lw_g (lw_at lw_m5 168 rfl) rfl
theorem q1168 : (Jvm.Cond.static ({ cls := "java/util/PriorityQueue", name := "siftUpUsingComparator", desc := "(ILjava/lang/Object;[Ljava/lang/Object;Ljava/util/Comparator;)V" } : Jvm.MethodName)) ∈ lw_all := lw_g (lw_at lw_m5 169 rfl) rfl
theorem q1169 : (Jvm.Cond.code ({ cls := "java/util/PriorityQueue", name := "siftUpUsingComparator", desc := "(ILjava/lang/Object;[Ljava/lang/Object;Ljava/util/Comparator;)V" } : Jvm.MethodName) prog_59_method_29_code (6 : Nat) (Option.none : Option Jvm.ClassFile.FieldType)) ∈ lw_all := lw_g (lw_at lw_m5 170 rfl) rfl
theorem q1170 : (Jvm.Cond.interfaceEntry "java/util/PriorityQueue" (149 : Nat)) ∈ lw_tbl := lw_at lw_m5 171 rfl
theorem q1171 : (Jvm.Cond.methodLink "java/util/PriorityQueue" (149 : Nat) ({ cls := "java/util/Comparator", name := "compare", desc := "(Ljava/lang/Object;Ljava/lang/Object;)I" } : Jvm.MethodName)) ∈ lw_all := lw_g (lw_at lw_m5 172 rfl) rfl
theorem q1174 : (Jvm.Cond.methodLink "java/util/PriorityQueue" (140 : Nat) ({ cls := "java/util/PriorityQueue", name := "siftUpComparable", desc := "(ILjava/lang/Object;[Ljava/lang/Object;)V" } : Jvm.MethodName)) ∈ lw_all := lw_g (lw_at lw_m5 175 rfl) rfl
theorem q1175 : (Jvm.Cond.static ({ cls := "java/util/PriorityQueue", name := "siftUpComparable", desc := "(ILjava/lang/Object;[Ljava/lang/Object;)V" } : Jvm.MethodName)) ∈ lw_all := lw_g (lw_at lw_m5 176 rfl) rfl
theorem q1176 : (Jvm.Cond.code ({ cls := "java/util/PriorityQueue", name := "siftUpComparable", desc := "(ILjava/lang/Object;[Ljava/lang/Object;)V" } : Jvm.MethodName) prog_59_method_28_code (6 : Nat) (Option.none : Option Jvm.ClassFile.FieldType)) ∈ lw_all := lw_g (lw_at lw_m5 177 rfl) rfl
theorem q1177 : (Jvm.Cond.classLink "java/util/PriorityQueue" (144 : Nat) "java/lang/Comparable") ∈ lw_all := lw_g (lw_at lw_m5 178 rfl) rfl
theorem q1178 : (Jvm.Cond.interfaceEntry "java/util/PriorityQueue" (146 : Nat)) ∈ lw_tbl := lw_at lw_m5 179 rfl
theorem q1179 : (Jvm.Cond.methodLink "java/util/PriorityQueue" (146 : Nat) ({ cls := "java/lang/Comparable", name := "compareTo", desc := "(Ljava/lang/Object;)I" } : Jvm.MethodName)) ∈ lw_all := lw_g (lw_at lw_m5 180 rfl) rfl
theorem q1264 : (Jvm.Cond.sameMethod "java/util/PriorityQueue" "java/util/AbstractCollection" "isEmpty" "()Z") ∈ lw_all := lw_g (lw_at lw_m6 25 rfl) rfl
theorem q1266 : (Jvm.Cond.selects "java/util/PriorityQueue" ({ cls := "java/util/PriorityQueue", name := "isEmpty", desc := "()Z" } : Jvm.MethodName) ({ cls := "java/util/AbstractCollection", name := "isEmpty", desc := "()Z" } : Jvm.MethodName)) ∈ lw_all := lw_g (lw_at lw_m6 27 rfl) rfl
theorem q1273 : (Jvm.Cond.selects "java/util/PriorityQueue" ({ cls := "java/util/AbstractCollection", name := "size", desc := "()I" } : Jvm.MethodName) ({ cls := "java/util/PriorityQueue", name := "size", desc := "()I" } : Jvm.MethodName)) ∈ lw_all := lw_g (lw_at lw_m6 34 rfl) rfl
theorem q1279 : (Jvm.Cond.instanceMethod ({ cls := "java/util/PriorityQueue", name := "poll", desc := "()Ljava/lang/Object;" } : Jvm.MethodName)) ∈ lw_all := lw_g (lw_at lw_m6 40 rfl) rfl
theorem q1280 : (Jvm.Cond.selects "java/util/PriorityQueue" ({ cls := "java/util/PriorityQueue", name := "poll", desc := "()Ljava/lang/Object;" } : Jvm.MethodName) ({ cls := "java/util/PriorityQueue", name := "poll", desc := "()Ljava/lang/Object;" } : Jvm.MethodName)) ∈ lw_all := lw_g (lw_at lw_m6 41 rfl) rfl
theorem q1281 : (Jvm.Cond.code ({ cls := "java/util/PriorityQueue", name := "poll", desc := "()Ljava/lang/Object;" } : Jvm.MethodName) prog_59_method_25_code (6 : Nat) (Option.some (Jvm.ClassFile.FieldType.object "java/lang/Object"))) ∈ lw_all := lw_g (lw_at lw_m6 42 rfl) rfl
theorem q1282 : (Jvm.Cond.methodLink "java/util/PriorityQueue" (125 : Nat) ({ cls := "java/util/PriorityQueue", name := "siftDownComparable", desc := "(ILjava/lang/Object;[Ljava/lang/Object;I)V" } : Jvm.MethodName)) ∈ lw_all := lw_g (lw_at lw_m6 43 rfl) rfl
theorem q1283 : (Jvm.Cond.static ({ cls := "java/util/PriorityQueue", name := "siftDownComparable", desc := "(ILjava/lang/Object;[Ljava/lang/Object;I)V" } : Jvm.MethodName)) ∈ lw_all := lw_g (lw_at lw_m6 44 rfl) rfl
theorem q1284 : (Jvm.Cond.code ({ cls := "java/util/PriorityQueue", name := "siftDownComparable", desc := "(ILjava/lang/Object;[Ljava/lang/Object;I)V" } : Jvm.MethodName) prog_59_method_31_code (9 : Nat) (Option.none : Option Jvm.ClassFile.FieldType)) ∈ lw_all := lw_g (lw_at lw_m6 45 rfl) rfl
theorem q1285 : (Jvm.Cond.methodLink "java/util/PriorityQueue" (129 : Nat) ({ cls := "java/util/PriorityQueue", name := "siftDownUsingComparator", desc := "(ILjava/lang/Object;[Ljava/lang/Object;ILjava/util/Comparator;)V" } : Jvm.MethodName)) ∈ lw_all := lw_g (lw_at lw_m6 46 rfl) rfl
theorem q1286 : (Jvm.Cond.static ({ cls := "java/util/PriorityQueue", name := "siftDownUsingComparator", desc := "(ILjava/lang/Object;[Ljava/lang/Object;ILjava/util/Comparator;)V" } : Jvm.MethodName)) ∈ lw_all := lw_g (lw_at lw_m6 47 rfl) rfl
theorem q1287 : (Jvm.Cond.code ({ cls := "java/util/PriorityQueue", name := "siftDownUsingComparator", desc := "(ILjava/lang/Object;[Ljava/lang/Object;ILjava/util/Comparator;)V" } : Jvm.MethodName) prog_59_method_32_code (9 : Nat) (Option.none : Option Jvm.ClassFile.FieldType)) ∈ lw_all := lw_g (lw_at lw_m6 48 rfl) rfl
theorem q1337 : (Jvm.Cond.castable "java/util/PriorityQueue" "java/util/Collection") ∈ lw_tbl := lw_at lw_m6 98 rfl
theorem q1338 : (Jvm.Cond.selects "java/util/PriorityQueue" ({ cls := "java/util/Collection", name := "toArray", desc := "()[Ljava/lang/Object;" } : Jvm.MethodName) ({ cls := "java/util/PriorityQueue", name := "toArray", desc := "()[Ljava/lang/Object;" } : Jvm.MethodName)) ∈ lw_all := lw_g (lw_at lw_m6 99 rfl) rfl
theorem q1339 : (Jvm.Cond.unhidden "java/util/PriorityQueue" "toArray" "()[Ljava/lang/Object;") ∈ lw_tbl := lw_at lw_m6 100 rfl
theorem q1340 : (Jvm.Cond.instanceMethod ({ cls := "java/util/PriorityQueue", name := "toArray", desc := "()[Ljava/lang/Object;" } : Jvm.MethodName)) ∈ lw_all := lw_g (lw_at lw_m6 101 rfl) rfl
theorem q1341 : (Jvm.Cond.publicMethod ({ cls := "java/util/PriorityQueue", name := "toArray", desc := "()[Ljava/lang/Object;" } : Jvm.MethodName)) ∈ lw_tbl := lw_at lw_m6 102 rfl
theorem q1342 : (Jvm.Cond.code ({ cls := "java/util/PriorityQueue", name := "toArray", desc := "()[Ljava/lang/Object;" } : Jvm.MethodName) prog_59_method_20_code (1 : Nat) (Option.some (Jvm.ClassFile.FieldType.array (Jvm.ClassFile.FieldType.object "java/lang/Object")))) ∈ lw_all := lw_g (lw_at lw_m6 103 rfl) rfl
theorem q1990 : (Jvm.Cond.castable "java/util/PriorityQueue" "java/lang/Object") ∈ lw_tbl := lw_at lw_m9 31 rfl
theorem in_J13 : ∀ w ∈ wsJ130, w ∈ lw_all := lw_in wsJ130 [470, 472, 474, 476] (by decide +kernel) (by decide +kernel)

/-! java/lang/IndexOutOfBoundsException -/
set_option maxRecDepth 100000
def RJ14 : String := "java/lang/IndexOutOfBoundsException"
def TJ14 : u_T := fun k => match k with
  | 0 => ("java/lang/Throwable", "cause", "Ljava/lang/Throwable;", false)
  | 1 => ("java/lang/Throwable", "stackTrace", "[Ljava/lang/StackTraceElement;", false)
  | 2 => ("java/lang/Throwable", "suppressedExceptions", "Ljava/util/List;", false)
  | 3 => ("java/lang/Throwable", "detailMessage", "Ljava/lang/String;", false)
  | 4 => ("java/lang/Throwable", "backtrace", "Ljava/lang/Object;", false)
  | _ => ("java/lang/Throwable", "depth", "I", false)
def tyJ14 : Nat → FieldType := fun k => match k with
  | 0 => .object "java/lang/Throwable"
  | 1 => .array (.object "java/lang/StackTraceElement")
  | 2 => .object "java/util/List"
  | 3 => .object "java/lang/String"
  | 4 => .object "java/lang/Object"
  | _ => .int
abbrev wsJ140 : List Cond := u_ws RJ14 TJ14 6
theorem nmJ14 : ∀ a, a < 6 → ∀ b, b < 6 → a ≠ b → (TJ14 a).2.1 ≠ (TJ14 b).2.1 := by decide +kernel
theorem tyJ14_ok : ∀ k, k < 6 → parseFieldDescriptor (TJ14 k).2.2.1 = some (tyJ14 k) := by decide +kernel
abbrev cJ14_init : ByteArray := prog_34_method_1_code
def yJ14_init : MethodName := ⟨RJ14, "<init>", "()V"⟩
theorem dJ14_init_0 : decode cJ14_init 0 = .ok (.aload_n 0, 1) := by decide +kernel
theorem dJ14_init_1 : decode cJ14_init 1 = .ok (.invokespecial 1, 3) := by decide +kernel
theorem dJ14_init_4 : decode cJ14_init 4 = .ok (.return_, 1) := by decide +kernel
abbrev cJ14_init_2 : ByteArray := prog_34_method_2_code
def yJ14_init_2 : MethodName := ⟨RJ14, "<init>", "(Ljava/lang/String;)V"⟩
def dkwJ14_init_2_0 : List UInt8 := [42, 43, 183, 0, 7, 177]
abbrev dktJ14_init_2_0 : List UInt8 := dkwJ14_init_2_0 ++ []
theorem dksJ14_init_2_0 : cJ14_init_2.data.toList.drop 0 = dktJ14_init_2_0 := by decide +kernel
theorem dJ14_init_2_0 : decode cJ14_init_2 0 = .ok (.aload_n 0, 1) := dk_42 (dk_at dksJ14_init_2_0 0 rfl rfl)
theorem dJ14_init_2_1 : decode cJ14_init_2 1 = .ok (.aload_n 1, 1) := dk_43 (dk_at dksJ14_init_2_0 1 rfl rfl)
theorem dJ14_init_2_2 : decode cJ14_init_2 2 = .ok (.invokespecial 7, 3) := dk_183 0 7 (dk_at dksJ14_init_2_0 2 rfl rfl)
theorem dJ14_init_2_5 : decode cJ14_init_2 5 = .ok (.return_, 1) := dk_177 (dk_at dksJ14_init_2_0 5 rfl rfl)
theorem q65 : (Jvm.Cond.initialized "java/lang/IndexOutOfBoundsException") ∈ lw_all := lw_g (lw_at lw_m1 26 rfl) rfl
theorem q273 : (Jvm.Cond.selects "java/lang/IndexOutOfBoundsException" ({ cls := "java/lang/Throwable", name := "fillInStackTrace", desc := "()Ljava/lang/Throwable;" } : Jvm.MethodName) ({ cls := "java/lang/Throwable", name := "fillInStackTrace", desc := "()Ljava/lang/Throwable;" } : Jvm.MethodName)) ∈ lw_all := lw_g (lw_at lw_m1 234 rfl) rfl
theorem q328 : (Jvm.Cond.instantiable "java/lang/IndexOutOfBoundsException" (6 : Nat)) ∈ lw_all := lw_g (lw_at lw_m2 49 rfl) rfl
theorem q329 : (Jvm.Cond.castable "java/lang/IndexOutOfBoundsException" "java/lang/IndexOutOfBoundsException") ∈ lw_tbl := lw_at lw_m2 50 rfl
theorem q330 : (Jvm.Cond.selects "java/lang/IndexOutOfBoundsException" ({ cls := "java/lang/Throwable", name := "fillInStackTrace", desc := "(I)Ljava/lang/Throwable;" } : Jvm.MethodName) ({ cls := "java/lang/Throwable", name := "fillInStackTrace", desc := "(I)Ljava/lang/Throwable;" } : Jvm.MethodName)) ∈ lw_all := lw_g (lw_at lw_m2 51 rfl) rfl
theorem q331 : (Jvm.Cond.lays "java/lang/IndexOutOfBoundsException" "java/lang/Throwable" "cause" "Ljava/lang/Throwable;") ∈ lw_all := lw_g (lw_at lw_m2 52 rfl) rfl
theorem q332 : (Jvm.Cond.lays "java/lang/IndexOutOfBoundsException" "java/lang/Throwable" "stackTrace" "[Ljava/lang/StackTraceElement;") ∈ lw_all := lw_g (lw_at lw_m2 53 rfl) rfl
theorem q333 : (Jvm.Cond.lays "java/lang/IndexOutOfBoundsException" "java/lang/Throwable" "suppressedExceptions" "Ljava/util/List;") ∈ lw_all := lw_g (lw_at lw_m2 54 rfl) rfl
theorem q334 : (Jvm.Cond.lays "java/lang/IndexOutOfBoundsException" "java/lang/Throwable" "detailMessage" "Ljava/lang/String;") ∈ lw_all := lw_g (lw_at lw_m2 55 rfl) rfl
theorem q335 : (Jvm.Cond.lays "java/lang/IndexOutOfBoundsException" "java/lang/Throwable" "backtrace" "Ljava/lang/Object;") ∈ lw_all := lw_g (lw_at lw_m2 56 rfl) rfl
theorem q337 : (Jvm.Cond.instanceMethod ({ cls := "java/lang/IndexOutOfBoundsException", name := "<init>", desc := "()V" } : Jvm.MethodName)) ∈ lw_all := lw_g (lw_at lw_m2 58 rfl) rfl
theorem q338 : (Jvm.Cond.code ({ cls := "java/lang/IndexOutOfBoundsException", name := "<init>", desc := "()V" } : Jvm.MethodName) prog_34_method_1_code (1 : Nat) (Option.none : Option Jvm.ClassFile.FieldType)) ∈ lw_all := lw_g (lw_at lw_m2 59 rfl) rfl
theorem q339 : (Jvm.Cond.methodLink "java/lang/IndexOutOfBoundsException" (1 : Nat) ({ cls := "java/lang/RuntimeException", name := "<init>", desc := "()V" } : Jvm.MethodName)) ∈ lw_all := lw_g (lw_at lw_m2 60 rfl) rfl
theorem q340 : (Jvm.Cond.lays "java/lang/IndexOutOfBoundsException" "java/lang/Throwable" "depth" "I") ∈ lw_all := lw_g (lw_at lw_m2 61 rfl) rfl
theorem q341 : (Jvm.Cond.superclass "java/lang/IndexOutOfBoundsException" "java/lang/RuntimeException") ∈ lw_all := lw_g (lw_at lw_m2 62 rfl) rfl
theorem q582 : (Jvm.Cond.selects "java/lang/IndexOutOfBoundsException" ({ cls := "java/lang/Object", name := "getClass", desc := "()Ljava/lang/Class;" } : Jvm.MethodName) ({ cls := "java/lang/Object", name := "getClass", desc := "()Ljava/lang/Class;" } : Jvm.MethodName)) ∈ lw_all := lw_g (lw_at lw_m3 63 rfl) rfl
theorem q680 : (Jvm.Cond.instanceMethod ({ cls := "java/lang/IndexOutOfBoundsException", name := "<init>", desc := "(Ljava/lang/String;)V" } : Jvm.MethodName)) ∈ lw_all := lw_g (lw_at lw_m3 161 rfl) rfl
theorem q681 : (Jvm.Cond.code ({ cls := "java/lang/IndexOutOfBoundsException", name := "<init>", desc := "(Ljava/lang/String;)V" } : Jvm.MethodName) prog_34_method_2_code (2 : Nat) (Option.none : Option Jvm.ClassFile.FieldType)) ∈ lw_all := lw_g (lw_at lw_m3 162 rfl) rfl
theorem q682 : (Jvm.Cond.methodLink "java/lang/IndexOutOfBoundsException" (7 : Nat) ({ cls := "java/lang/RuntimeException", name := "<init>", desc := "(Ljava/lang/String;)V" } : Jvm.MethodName)) ∈ lw_all := lw_g (lw_at lw_m3 163 rfl) rfl
theorem q699 : (Jvm.Cond.declares ({ cls := "java/lang/IndexOutOfBoundsException", name := "<init>", desc := "()V" } : Jvm.MethodName)) ∈ lw_tbl := lw_at lw_m3 180 rfl
theorem q700 : (Jvm.Cond.declares ({ cls := "java/lang/IndexOutOfBoundsException", name := "<init>", desc := "(Ljava/lang/String;)V" } : Jvm.MethodName)) ∈ lw_tbl := lw_at lw_m3 181 rfl
theorem q1996 : (Jvm.Cond.castable "java/lang/IndexOutOfBoundsException" "java/lang/Object") ∈ lw_tbl := lw_at lw_m9 37 rfl
theorem in_J14 : ∀ w ∈ wsJ140, w ∈ lw_all := lw_in wsJ140 [331, 332, 333, 334, 335, 340] (by decide +kernel) (by decide +kernel)

/-! java/lang/ArrayIndexOutOfBoundsException -/
set_option maxRecDepth 100000
def RJ15 : String := "java/lang/ArrayIndexOutOfBoundsException"
def TJ15 : u_T := fun k => match k with
  | 0 => ("java/lang/Throwable", "backtrace", "Ljava/lang/Object;", false)
  | 1 => ("java/lang/Throwable", "detailMessage", "Ljava/lang/String;", false)
  | 2 => ("java/lang/Throwable", "cause", "Ljava/lang/Throwable;", false)
  | 3 => ("java/lang/Throwable", "stackTrace", "[Ljava/lang/StackTraceElement;", false)
  | 4 => ("java/lang/Throwable", "depth", "I", false)
  | _ => ("java/lang/Throwable", "suppressedExceptions", "Ljava/util/List;", false)
def tyJ15 : Nat → FieldType := fun k => match k with
  | 0 => .object "java/lang/Object"
  | 1 => .object "java/lang/String"
  | 2 => .object "java/lang/Throwable"
  | 3 => .array (.object "java/lang/StackTraceElement")
  | 4 => .int
  | _ => .object "java/util/List"
abbrev wsJ150 : List Cond := u_ws RJ15 TJ15 6
theorem nmJ15 : ∀ a, a < 6 → ∀ b, b < 6 → a ≠ b → (TJ15 a).2.1 ≠ (TJ15 b).2.1 := by decide +kernel
theorem tyJ15_ok : ∀ k, k < 6 → parseFieldDescriptor (TJ15 k).2.2.1 = some (tyJ15 k) := by decide +kernel
abbrev cJ15_init : ByteArray := prog_26_method_2_code
def yJ15_init : MethodName := ⟨RJ15, "<init>", "(Ljava/lang/String;)V"⟩
def dkwJ15_init_0 : List UInt8 := [42, 43, 183, 0, 7, 177]
abbrev dktJ15_init_0 : List UInt8 := dkwJ15_init_0 ++ []
theorem dksJ15_init_0 : cJ15_init.data.toList.drop 0 = dktJ15_init_0 := by decide +kernel
theorem dJ15_init_0 : decode cJ15_init 0 = .ok (.aload_n 0, 1) := dk_42 (dk_at dksJ15_init_0 0 rfl rfl)
theorem dJ15_init_1 : decode cJ15_init 1 = .ok (.aload_n 1, 1) := dk_43 (dk_at dksJ15_init_0 1 rfl rfl)
theorem dJ15_init_2 : decode cJ15_init 2 = .ok (.invokespecial 7, 3) := dk_183 0 7 (dk_at dksJ15_init_0 2 rfl rfl)
theorem dJ15_init_5 : decode cJ15_init 5 = .ok (.return_, 1) := dk_177 (dk_at dksJ15_init_0 5 rfl rfl)
theorem q66 : (Jvm.Cond.initialized "java/lang/ArrayIndexOutOfBoundsException") ∈ lw_all := lw_g (lw_at lw_m1 27 rfl) rfl
theorem q270 : (Jvm.Cond.selects "java/lang/ArrayIndexOutOfBoundsException" ({ cls := "java/lang/Throwable", name := "fillInStackTrace", desc := "()Ljava/lang/Throwable;" } : Jvm.MethodName) ({ cls := "java/lang/Throwable", name := "fillInStackTrace", desc := "()Ljava/lang/Throwable;" } : Jvm.MethodName)) ∈ lw_all := lw_g (lw_at lw_m1 231 rfl) rfl
theorem q578 : (Jvm.Cond.selects "java/lang/ArrayIndexOutOfBoundsException" ({ cls := "java/lang/Object", name := "getClass", desc := "()Ljava/lang/Class;" } : Jvm.MethodName) ({ cls := "java/lang/Object", name := "getClass", desc := "()Ljava/lang/Class;" } : Jvm.MethodName)) ∈ lw_all := lw_g (lw_at lw_m3 59 rfl) rfl
theorem q676 : (Jvm.Cond.instantiable "java/lang/ArrayIndexOutOfBoundsException" (6 : Nat)) ∈ lw_all := lw_g (lw_at lw_m3 157 rfl) rfl
theorem q677 : (Jvm.Cond.instanceMethod ({ cls := "java/lang/ArrayIndexOutOfBoundsException", name := "<init>", desc := "(Ljava/lang/String;)V" } : Jvm.MethodName)) ∈ lw_all := lw_g (lw_at lw_m3 158 rfl) rfl
theorem q678 : (Jvm.Cond.code ({ cls := "java/lang/ArrayIndexOutOfBoundsException", name := "<init>", desc := "(Ljava/lang/String;)V" } : Jvm.MethodName) prog_26_method_2_code (2 : Nat) (Option.none : Option Jvm.ClassFile.FieldType)) ∈ lw_all := lw_g (lw_at lw_m3 159 rfl) rfl
theorem q679 : (Jvm.Cond.methodLink "java/lang/ArrayIndexOutOfBoundsException" (7 : Nat) ({ cls := "java/lang/IndexOutOfBoundsException", name := "<init>", desc := "(Ljava/lang/String;)V" } : Jvm.MethodName)) ∈ lw_all := lw_g (lw_at lw_m3 160 rfl) rfl
theorem q691 : (Jvm.Cond.lays "java/lang/ArrayIndexOutOfBoundsException" "java/lang/Throwable" "backtrace" "Ljava/lang/Object;") ∈ lw_all := lw_g (lw_at lw_m3 172 rfl) rfl
theorem q692 : (Jvm.Cond.lays "java/lang/ArrayIndexOutOfBoundsException" "java/lang/Throwable" "detailMessage" "Ljava/lang/String;") ∈ lw_all := lw_g (lw_at lw_m3 173 rfl) rfl
theorem q693 : (Jvm.Cond.lays "java/lang/ArrayIndexOutOfBoundsException" "java/lang/Throwable" "cause" "Ljava/lang/Throwable;") ∈ lw_all := lw_g (lw_at lw_m3 174 rfl) rfl
theorem q694 : (Jvm.Cond.lays "java/lang/ArrayIndexOutOfBoundsException" "java/lang/Throwable" "stackTrace" "[Ljava/lang/StackTraceElement;") ∈ lw_all := lw_g (lw_at lw_m3 175 rfl) rfl
theorem q695 : (Jvm.Cond.lays "java/lang/ArrayIndexOutOfBoundsException" "java/lang/Throwable" "depth" "I") ∈ lw_all := lw_g (lw_at lw_m3 176 rfl) rfl
theorem q696 : (Jvm.Cond.lays "java/lang/ArrayIndexOutOfBoundsException" "java/lang/Throwable" "suppressedExceptions" "Ljava/util/List;") ∈ lw_all := lw_g (lw_at lw_m3 177 rfl) rfl
theorem q697 : (Jvm.Cond.superclass "java/lang/ArrayIndexOutOfBoundsException" "java/lang/IndexOutOfBoundsException") ∈ lw_all := lw_g (lw_at lw_m3 178 rfl) rfl
theorem q698 : (Jvm.Cond.castable "java/lang/ArrayIndexOutOfBoundsException" "java/lang/ArrayIndexOutOfBoundsException") ∈ lw_tbl := lw_at lw_m3 179 rfl
theorem q701 : (Jvm.Cond.selects "java/lang/ArrayIndexOutOfBoundsException" ({ cls := "java/lang/Throwable", name := "fillInStackTrace", desc := "(I)Ljava/lang/Throwable;" } : Jvm.MethodName) ({ cls := "java/lang/Throwable", name := "fillInStackTrace", desc := "(I)Ljava/lang/Throwable;" } : Jvm.MethodName)) ∈ lw_all := lw_g (lw_at lw_m3 182 rfl) rfl
theorem q1974 : (Jvm.Cond.castable "java/lang/ArrayIndexOutOfBoundsException" "java/lang/IndexOutOfBoundsException") ∈ lw_tbl := lw_at lw_m9 15 rfl
theorem q1995 : (Jvm.Cond.castable "java/lang/ArrayIndexOutOfBoundsException" "java/lang/Object") ∈ lw_tbl := lw_at lw_m9 36 rfl
theorem in_J15 : ∀ w ∈ wsJ150, w ∈ lw_all := lw_in wsJ150 [691, 692, 693, 694, 695, 696] (by decide +kernel) (by decide +kernel)

/-! java/lang/String -/
set_option maxRecDepth 100000
def RJ16 : String := "java/lang/String"
def TJ16 : u_T := fun k => match k with
  | 0 => ("java/lang/String", "value", "[B", true)
  | _ => ("java/lang/String", "coder", "B", true)
def tyJ16 : Nat → FieldType := fun k => match k with
  | 0 => .array .byte
  | _ => .byte
abbrev wsJ160 : List Cond := u_ws RJ16 TJ16 2
theorem nmJ16 : ∀ a, a < 2 → ∀ b, b < 2 → a ≠ b → (TJ16 a).2.1 ≠ (TJ16 b).2.1 := by decide +kernel
theorem tyJ16_ok : ∀ k, k < 2 → parseFieldDescriptor (TJ16 k).2.2.1 = some (tyJ16 k) := by decide +kernel
theorem q67 : (Jvm.Cond.initialized "java/lang/String") ∈ lw_all := lw_g (lw_at lw_m1 28 rfl) rfl
theorem q702 : (Jvm.Cond.instantiable "java/lang/String" (4 : Nat)) ∈ lw_all := lw_g (lw_at lw_m3 183 rfl) rfl
theorem q704 : (Jvm.Cond.laysFinal "java/lang/String" "java/lang/String" "value" "[B") ∈ lw_all := lw_g (lw_at lw_m3 185 rfl) rfl
theorem q705 : (Jvm.Cond.soleField "java/lang/String" "value") ∈ lw_all := lw_g (lw_at lw_m3 186 rfl) rfl
theorem q706 : (Jvm.Cond.laysFinal "java/lang/String" "java/lang/String" "coder" "B") ∈ lw_all := lw_g (lw_at lw_m3 187 rfl) rfl
theorem q707 : (Jvm.Cond.soleField "java/lang/String" "coder") ∈ lw_all := lw_g (lw_at lw_m3 188 rfl) rfl
theorem q1982 : (Jvm.Cond.castable "java/lang/String" "java/lang/Comparable") ∈ lw_tbl := lw_at lw_m9 23 rfl
theorem q2015 : (Jvm.Cond.castable "java/lang/String" "java/lang/Object") ∈ lw_tbl := lw_at lw_m9 56 rfl
theorem in_J16 : ∀ w ∈ wsJ160, w ∈ lw_all := lw_in wsJ160 [704, 706] (by decide +kernel) (by decide +kernel)

/-! java/util/Objects -/
set_option maxRecDepth 100000
def RJ17 : String := "java/util/Objects"
abbrev cJ17_checkIndex : ByteArray := prog_58_method_17_code
def yJ17_checkIndex : MethodName := ⟨RJ17, "checkIndex", "(II)I"⟩
def dkwJ17_checkIndex_0 : List UInt8 := [26, 27, 1, 184, 0, 105, 172]
abbrev dktJ17_checkIndex_0 : List UInt8 := dkwJ17_checkIndex_0 ++ []
theorem dksJ17_checkIndex_0 : cJ17_checkIndex.data.toList.drop 0 = dktJ17_checkIndex_0 := by decide +kernel
theorem dJ17_checkIndex_0 : decode cJ17_checkIndex 0 = .ok (.iload_n 0, 1) := dk_26 (dk_at dksJ17_checkIndex_0 0 rfl rfl)
theorem dJ17_checkIndex_1 : decode cJ17_checkIndex 1 = .ok (.iload_n 1, 1) := dk_27 (dk_at dksJ17_checkIndex_0 1 rfl rfl)
theorem dJ17_checkIndex_2 : decode cJ17_checkIndex 2 = .ok (.aconst_null, 1) := dk_1 (dk_at dksJ17_checkIndex_0 2 rfl rfl)
theorem dJ17_checkIndex_3 : decode cJ17_checkIndex 3 = .ok (.invokestatic 105, 3) := dk_184 0 105 (dk_at dksJ17_checkIndex_0 3 rfl rfl)
theorem dJ17_checkIndex_6 : decode cJ17_checkIndex 6 = .ok (.ireturn, 1) := dk_172 (dk_at dksJ17_checkIndex_0 6 rfl rfl)
theorem q68 : (Jvm.Cond.initialized "java/util/Objects") ∈ lw_all := lw_g (lw_at lw_m1 29 rfl) rfl
theorem q348 : (Jvm.Cond.static ({ cls := "java/util/Objects", name := "checkIndex", desc := "(II)I" } : Jvm.MethodName)) ∈ lw_all := lw_g (lw_at lw_m2 69 rfl) rfl
theorem q349 : (Jvm.Cond.code ({ cls := "java/util/Objects", name := "checkIndex", desc := "(II)I" } : Jvm.MethodName) prog_58_method_17_code (2 : Nat) (Option.some Jvm.ClassFile.FieldType.int)) ∈ lw_all := lw_g (lw_at lw_m2 70 rfl) rfl
theorem q350 : (Jvm.Cond.methodLink "java/util/Objects" (105 : Nat) ({ cls := "jdk/internal/util/Preconditions", name := "checkIndex", desc := "(IILjava/util/function/BiFunction;)I" } : Jvm.MethodName)) ∈ lw_all := lw_g (lw_at lw_m2 71 rfl) rfl

/-! jdk/internal/util/Preconditions -/
set_option maxRecDepth 100000
def RJ18 : String := "jdk/internal/util/Preconditions"
abbrev cJ18_checkIndex : ByteArray := prog_64_method_11_code
def yJ18_checkIndex : MethodName := ⟨RJ18, "checkIndex", "(IILjava/util/function/BiFunction;)I"⟩
def dkwJ18_checkIndex_0 : List UInt8 := [26, 155, 0, 8, 26, 27, 161, 0, 10, 44, 26, 27, 184, 0, 95, 191, 26, 172]
abbrev dktJ18_checkIndex_0 : List UInt8 := dkwJ18_checkIndex_0 ++ []
theorem dksJ18_checkIndex_0 : cJ18_checkIndex.data.toList.drop 0 = dktJ18_checkIndex_0 := by decide +kernel
theorem dJ18_checkIndex_0 : decode cJ18_checkIndex 0 = .ok (.iload_n 0, 1) := dk_26 (dk_at dksJ18_checkIndex_0 0 rfl rfl)
theorem dJ18_checkIndex_1 : decode cJ18_checkIndex 1 = .ok (.ifCond .lt 8, 3) := dk_155 0 8 (dk_at dksJ18_checkIndex_0 1 rfl rfl)
theorem dJ18_checkIndex_4 : decode cJ18_checkIndex 4 = .ok (.iload_n 0, 1) := dk_26 (dk_at dksJ18_checkIndex_0 4 rfl rfl)
theorem dJ18_checkIndex_5 : decode cJ18_checkIndex 5 = .ok (.iload_n 1, 1) := dk_27 (dk_at dksJ18_checkIndex_0 5 rfl rfl)
theorem dJ18_checkIndex_6 : decode cJ18_checkIndex 6 = .ok (.if_icmp .lt 10, 3) := dk_161 0 10 (dk_at dksJ18_checkIndex_0 6 rfl rfl)
theorem dJ18_checkIndex_9 : decode cJ18_checkIndex 9 = .ok (.aload_n 2, 1) := dk_44 (dk_at dksJ18_checkIndex_0 9 rfl rfl)
theorem dJ18_checkIndex_10 : decode cJ18_checkIndex 10 = .ok (.iload_n 0, 1) := dk_26 (dk_at dksJ18_checkIndex_0 10 rfl rfl)
theorem dJ18_checkIndex_11 : decode cJ18_checkIndex 11 = .ok (.iload_n 1, 1) := dk_27 (dk_at dksJ18_checkIndex_0 11 rfl rfl)
theorem dJ18_checkIndex_12 : decode cJ18_checkIndex 12 = .ok (.invokestatic 95, 3) := dk_184 0 95 (dk_at dksJ18_checkIndex_0 12 rfl rfl)
theorem dJ18_checkIndex_15 : decode cJ18_checkIndex 15 = .ok (.athrow, 1) := dk_191 (dk_at dksJ18_checkIndex_0 15 rfl rfl)
theorem dJ18_checkIndex_16 : decode cJ18_checkIndex 16 = .ok (.iload_n 0, 1) := dk_26 (dk_at dksJ18_checkIndex_0 16 rfl rfl)
theorem dJ18_checkIndex_17 : decode cJ18_checkIndex 17 = .ok (.ireturn, 1) := dk_172 (dk_at dksJ18_checkIndex_0 17 rfl rfl)
theorem q69 : (Jvm.Cond.initialized "jdk/internal/util/Preconditions") ∈ lw_all := lw_g (lw_at lw_m1 30 rfl) rfl
theorem q351 : (Jvm.Cond.static ({ cls := "jdk/internal/util/Preconditions", name := "checkIndex", desc := "(IILjava/util/function/BiFunction;)I" } : Jvm.MethodName)) ∈ lw_all := lw_g (lw_at lw_m2 72 rfl) rfl
theorem q352 : (Jvm.Cond.code ({ cls := "jdk/internal/util/Preconditions", name := "checkIndex", desc := "(IILjava/util/function/BiFunction;)I" } : Jvm.MethodName) prog_64_method_11_code (3 : Nat) (Option.some Jvm.ClassFile.FieldType.int)) ∈ lw_all := lw_g (lw_at lw_m2 73 rfl) rfl

/-! java/lang/UnsupportedOperationException -/
set_option maxRecDepth 100000
def RJ19 : String := "java/lang/UnsupportedOperationException"
def TJ19 : u_T := fun k => match k with
  | 0 => ("java/lang/Throwable", "cause", "Ljava/lang/Throwable;", false)
  | 1 => ("java/lang/Throwable", "stackTrace", "[Ljava/lang/StackTraceElement;", false)
  | 2 => ("java/lang/Throwable", "suppressedExceptions", "Ljava/util/List;", false)
  | 3 => ("java/lang/Throwable", "detailMessage", "Ljava/lang/String;", false)
  | 4 => ("java/lang/Throwable", "backtrace", "Ljava/lang/Object;", false)
  | _ => ("java/lang/Throwable", "depth", "I", false)
def tyJ19 : Nat → FieldType := fun k => match k with
  | 0 => .object "java/lang/Throwable"
  | 1 => .array (.object "java/lang/StackTraceElement")
  | 2 => .object "java/util/List"
  | 3 => .object "java/lang/String"
  | 4 => .object "java/lang/Object"
  | _ => .int
abbrev wsJ190 : List Cond := u_ws RJ19 TJ19 6
theorem nmJ19 : ∀ a, a < 6 → ∀ b, b < 6 → a ≠ b → (TJ19 a).2.1 ≠ (TJ19 b).2.1 := by decide +kernel
theorem tyJ19_ok : ∀ k, k < 6 → parseFieldDescriptor (TJ19 k).2.2.1 = some (tyJ19 k) := by decide +kernel
abbrev cJ19_init : ByteArray := prog_44_method_1_code
def yJ19_init : MethodName := ⟨RJ19, "<init>", "()V"⟩
theorem dJ19_init_0 : decode cJ19_init 0 = .ok (.aload_n 0, 1) := by decide +kernel
theorem dJ19_init_1 : decode cJ19_init 1 = .ok (.invokespecial 1, 3) := by decide +kernel
theorem dJ19_init_4 : decode cJ19_init 4 = .ok (.return_, 1) := by decide +kernel
theorem q70 : (Jvm.Cond.initialized "java/lang/UnsupportedOperationException") ∈ lw_all := lw_g (lw_at lw_m1 31 rfl) rfl
theorem q274 : (Jvm.Cond.selects "java/lang/UnsupportedOperationException" ({ cls := "java/lang/Throwable", name := "fillInStackTrace", desc := "()Ljava/lang/Throwable;" } : Jvm.MethodName) ({ cls := "java/lang/Throwable", name := "fillInStackTrace", desc := "()Ljava/lang/Throwable;" } : Jvm.MethodName)) ∈ lw_all := lw_g (lw_at lw_m1 235 rfl) rfl
theorem q584 : (Jvm.Cond.selects "java/lang/UnsupportedOperationException" ({ cls := "java/lang/Object", name := "getClass", desc := "()Ljava/lang/Class;" } : Jvm.MethodName) ({ cls := "java/lang/Object", name := "getClass", desc := "()Ljava/lang/Class;" } : Jvm.MethodName)) ∈ lw_all := lw_g (lw_at lw_m3 65 rfl) rfl
theorem q722 : (Jvm.Cond.instantiable "java/lang/UnsupportedOperationException" (6 : Nat)) ∈ lw_all := lw_g (lw_at lw_m3 203 rfl) rfl
theorem q723 : (Jvm.Cond.castable "java/lang/UnsupportedOperationException" "java/lang/UnsupportedOperationException") ∈ lw_tbl := lw_at lw_m3 204 rfl
theorem q724 : (Jvm.Cond.selects "java/lang/UnsupportedOperationException" ({ cls := "java/lang/Throwable", name := "fillInStackTrace", desc := "(I)Ljava/lang/Throwable;" } : Jvm.MethodName) ({ cls := "java/lang/Throwable", name := "fillInStackTrace", desc := "(I)Ljava/lang/Throwable;" } : Jvm.MethodName)) ∈ lw_all := lw_g (lw_at lw_m3 205 rfl) rfl
theorem q725 : (Jvm.Cond.lays "java/lang/UnsupportedOperationException" "java/lang/Throwable" "cause" "Ljava/lang/Throwable;") ∈ lw_all := lw_g (lw_at lw_m3 206 rfl) rfl
theorem q726 : (Jvm.Cond.lays "java/lang/UnsupportedOperationException" "java/lang/Throwable" "stackTrace" "[Ljava/lang/StackTraceElement;") ∈ lw_all := lw_g (lw_at lw_m3 207 rfl) rfl
theorem q727 : (Jvm.Cond.lays "java/lang/UnsupportedOperationException" "java/lang/Throwable" "suppressedExceptions" "Ljava/util/List;") ∈ lw_all := lw_g (lw_at lw_m3 208 rfl) rfl
theorem q728 : (Jvm.Cond.lays "java/lang/UnsupportedOperationException" "java/lang/Throwable" "detailMessage" "Ljava/lang/String;") ∈ lw_all := lw_g (lw_at lw_m3 209 rfl) rfl
theorem q729 : (Jvm.Cond.lays "java/lang/UnsupportedOperationException" "java/lang/Throwable" "backtrace" "Ljava/lang/Object;") ∈ lw_all := lw_g (lw_at lw_m3 210 rfl) rfl
theorem q731 : (Jvm.Cond.instanceMethod ({ cls := "java/lang/UnsupportedOperationException", name := "<init>", desc := "()V" } : Jvm.MethodName)) ∈ lw_all := lw_g (lw_at lw_m3 212 rfl) rfl
theorem q732 : (Jvm.Cond.code ({ cls := "java/lang/UnsupportedOperationException", name := "<init>", desc := "()V" } : Jvm.MethodName) prog_44_method_1_code (1 : Nat) (Option.none : Option Jvm.ClassFile.FieldType)) ∈ lw_all := lw_g (lw_at lw_m3 213 rfl) rfl
theorem q733 : (Jvm.Cond.methodLink "java/lang/UnsupportedOperationException" (1 : Nat) ({ cls := "java/lang/RuntimeException", name := "<init>", desc := "()V" } : Jvm.MethodName)) ∈ lw_all := lw_g (lw_at lw_m3 214 rfl) rfl
theorem q734 : (Jvm.Cond.lays "java/lang/UnsupportedOperationException" "java/lang/Throwable" "depth" "I") ∈ lw_all := lw_g (lw_at lw_m3 215 rfl) rfl
theorem q735 : (Jvm.Cond.superclass "java/lang/UnsupportedOperationException" "java/lang/RuntimeException") ∈ lw_all := lw_g (lw_at lw_m3 216 rfl) rfl
theorem q1997 : (Jvm.Cond.castable "java/lang/UnsupportedOperationException" "java/lang/Object") ∈ lw_tbl := lw_at lw_m9 38 rfl
theorem in_J19 : ∀ w ∈ wsJ190, w ∈ lw_all := lw_in wsJ190 [725, 726, 727, 728, 729, 734] (by decide +kernel) (by decide +kernel)

/-! java/lang/Boolean -/
set_option maxRecDepth 100000
def RJ20 : String := "java/lang/Boolean"
abbrev cJ20_valueOf : ByteArray := prog_27_method_5_code
def yJ20_valueOf : MethodName := ⟨RJ20, "valueOf", "(Z)Ljava/lang/Boolean;"⟩
def dkwJ20_valueOf_0 : List UInt8 := [26, 153, 0, 9, 178, 0, 27, 167, 0, 6, 178, 0, 31, 176]
abbrev dktJ20_valueOf_0 : List UInt8 := dkwJ20_valueOf_0 ++ []
theorem dksJ20_valueOf_0 : cJ20_valueOf.data.toList.drop 0 = dktJ20_valueOf_0 := by decide +kernel
theorem dJ20_valueOf_0 : decode cJ20_valueOf 0 = .ok (.iload_n 0, 1) := dk_26 (dk_at dksJ20_valueOf_0 0 rfl rfl)
theorem dJ20_valueOf_1 : decode cJ20_valueOf 1 = .ok (.ifCond .eq 9, 3) := dk_153 0 9 (dk_at dksJ20_valueOf_0 1 rfl rfl)
theorem dJ20_valueOf_4 : decode cJ20_valueOf 4 = .ok (.getstatic 27, 3) := dk_178 0 27 (dk_at dksJ20_valueOf_0 4 rfl rfl)
theorem dJ20_valueOf_7 : decode cJ20_valueOf 7 = .ok (.goto 6, 3) := dk_167 0 6 (dk_at dksJ20_valueOf_0 7 rfl rfl)
theorem dJ20_valueOf_10 : decode cJ20_valueOf 10 = .ok (.getstatic 31, 3) := dk_178 0 31 (dk_at dksJ20_valueOf_0 10 rfl rfl)
theorem dJ20_valueOf_13 : decode cJ20_valueOf 13 = .ok (.areturn, 1) := dk_176 (dk_at dksJ20_valueOf_0 13 rfl rfl)
abbrev cJ20_booleanValue : ByteArray := prog_27_method_4_code
def yJ20_booleanValue : MethodName := ⟨RJ20, "booleanValue", "()Z"⟩
theorem dJ20_booleanValue_0 : decode cJ20_booleanValue 0 = .ok (.aload_n 0, 1) := by decide +kernel
theorem dJ20_booleanValue_1 : decode cJ20_booleanValue 1 = .ok (.getfield 7, 3) := by decide +kernel
theorem dJ20_booleanValue_4 : decode cJ20_booleanValue 4 = .ok (.ireturn, 1) := by decide +kernel
abbrev cJ20_compareTo : ByteArray := prog_27_method_19_code
def yJ20_compareTo : MethodName := ⟨RJ20, "compareTo", "(Ljava/lang/Object;)I"⟩
def dkwJ20_compareTo_0 : List UInt8 := [42, 43, 192, 0, 8, 182, 0, 73, 172]
abbrev dktJ20_compareTo_0 : List UInt8 := dkwJ20_compareTo_0 ++ []
theorem dksJ20_compareTo_0 : cJ20_compareTo.data.toList.drop 0 = dktJ20_compareTo_0 := by decide +kernel
theorem dJ20_compareTo_0 : decode cJ20_compareTo 0 = .ok (.aload_n 0, 1) := dk_42 (dk_at dksJ20_compareTo_0 0 rfl rfl)
theorem dJ20_compareTo_1 : decode cJ20_compareTo 1 = .ok (.aload_n 1, 1) := dk_43 (dk_at dksJ20_compareTo_0 1 rfl rfl)
theorem dJ20_compareTo_2 : decode cJ20_compareTo 2 = .ok (.checkcast 8, 3) := dk_192 0 8 (dk_at dksJ20_compareTo_0 2 rfl rfl)
theorem dJ20_compareTo_5 : decode cJ20_compareTo 5 = .ok (.invokevirtual 73, 3) := dk_182 0 73 (dk_at dksJ20_compareTo_0 5 rfl rfl)
theorem dJ20_compareTo_8 : decode cJ20_compareTo 8 = .ok (.ireturn, 1) := dk_172 (dk_at dksJ20_compareTo_0 8 rfl rfl)
abbrev cJ20_compareTo_2 : ByteArray := prog_27_method_13_code
def yJ20_compareTo_2 : MethodName := ⟨RJ20, "compareTo", "(Ljava/lang/Boolean;)I"⟩
def dkwJ20_compareTo_2_0 : List UInt8 := [42, 180, 0, 7, 43, 180, 0, 7, 184, 0, 56, 172]
abbrev dktJ20_compareTo_2_0 : List UInt8 := dkwJ20_compareTo_2_0 ++ []
theorem dksJ20_compareTo_2_0 : cJ20_compareTo_2.data.toList.drop 0 = dktJ20_compareTo_2_0 := by decide +kernel
theorem dJ20_compareTo_2_0 : decode cJ20_compareTo_2 0 = .ok (.aload_n 0, 1) := dk_42 (dk_at dksJ20_compareTo_2_0 0 rfl rfl)
theorem dJ20_compareTo_2_1 : decode cJ20_compareTo_2 1 = .ok (.getfield 7, 3) := dk_180 0 7 (dk_at dksJ20_compareTo_2_0 1 rfl rfl)
theorem dJ20_compareTo_2_4 : decode cJ20_compareTo_2 4 = .ok (.aload_n 1, 1) := dk_43 (dk_at dksJ20_compareTo_2_0 4 rfl rfl)
theorem dJ20_compareTo_2_5 : decode cJ20_compareTo_2 5 = .ok (.getfield 7, 3) := dk_180 0 7 (dk_at dksJ20_compareTo_2_0 5 rfl rfl)
theorem dJ20_compareTo_2_8 : decode cJ20_compareTo_2 8 = .ok (.invokestatic 56, 3) := dk_184 0 56 (dk_at dksJ20_compareTo_2_0 8 rfl rfl)
theorem dJ20_compareTo_2_11 : decode cJ20_compareTo_2 11 = .ok (.ireturn, 1) := dk_172 (dk_at dksJ20_compareTo_2_0 11 rfl rfl)
abbrev cJ20_compare : ByteArray := prog_27_method_14_code
def yJ20_compare : MethodName := ⟨RJ20, "compare", "(ZZ)I"⟩
def dkwJ20_compare_0 : List UInt8 := [26, 27, 160, 0, 7, 3, 167, 0, 12, 26, 153, 0, 7, 4, 167, 0, 4, 2, 172]
abbrev dktJ20_compare_0 : List UInt8 := dkwJ20_compare_0 ++ []
theorem dksJ20_compare_0 : cJ20_compare.data.toList.drop 0 = dktJ20_compare_0 := by decide +kernel
theorem dJ20_compare_0 : decode cJ20_compare 0 = .ok (.iload_n 0, 1) := dk_26 (dk_at dksJ20_compare_0 0 rfl rfl)
theorem dJ20_compare_1 : decode cJ20_compare 1 = .ok (.iload_n 1, 1) := dk_27 (dk_at dksJ20_compare_0 1 rfl rfl)
theorem dJ20_compare_2 : decode cJ20_compare 2 = .ok (.if_icmp .ne 7, 3) := dk_160 0 7 (dk_at dksJ20_compare_0 2 rfl rfl)
theorem dJ20_compare_5 : decode cJ20_compare 5 = .ok (.iconst 0, 1) := dk_3 (dk_at dksJ20_compare_0 5 rfl rfl)
theorem dJ20_compare_6 : decode cJ20_compare 6 = .ok (.goto 12, 3) := dk_167 0 12 (dk_at dksJ20_compare_0 6 rfl rfl)
theorem dJ20_compare_9 : decode cJ20_compare 9 = .ok (.iload_n 0, 1) := dk_26 (dk_at dksJ20_compare_0 9 rfl rfl)
theorem dJ20_compare_10 : decode cJ20_compare 10 = .ok (.ifCond .eq 7, 3) := dk_153 0 7 (dk_at dksJ20_compare_0 10 rfl rfl)
theorem dJ20_compare_13 : decode cJ20_compare 13 = .ok (.iconst 1, 1) := dk_4 (dk_at dksJ20_compare_0 13 rfl rfl)
theorem dJ20_compare_14 : decode cJ20_compare 14 = .ok (.goto 4, 3) := dk_167 0 4 (dk_at dksJ20_compare_0 14 rfl rfl)
theorem dJ20_compare_17 : decode cJ20_compare 17 = .ok (.iconst (-1), 1) := dk_2 (dk_at dksJ20_compare_0 17 rfl rfl)
theorem dJ20_compare_18 : decode cJ20_compare 18 = .ok (.ireturn, 1) := dk_172 (dk_at dksJ20_compare_0 18 rfl rfl)
theorem q74 : (Jvm.Cond.initialized "java/lang/Boolean") ∈ lw_all := lw_g (lw_at lw_m1 35 rfl) rfl
theorem q579 : (Jvm.Cond.selects "java/lang/Boolean" ({ cls := "java/lang/Object", name := "getClass", desc := "()Ljava/lang/Class;" } : Jvm.MethodName) ({ cls := "java/lang/Object", name := "getClass", desc := "()Ljava/lang/Class;" } : Jvm.MethodName)) ∈ lw_all := lw_g (lw_at lw_m3 60 rfl) rfl
theorem q837 : (Jvm.Cond.static ({ cls := "java/lang/Boolean", name := "valueOf", desc := "(Z)Ljava/lang/Boolean;" } : Jvm.MethodName)) ∈ lw_all := lw_g (lw_at lw_m4 78 rfl) rfl
theorem q838 : (Jvm.Cond.code ({ cls := "java/lang/Boolean", name := "valueOf", desc := "(Z)Ljava/lang/Boolean;" } : Jvm.MethodName) prog_27_method_5_code (1 : Nat) (Option.some (Jvm.ClassFile.FieldType.object "java/lang/Boolean"))) ∈ lw_all := lw_g (lw_at lw_m4 79 rfl) rfl
theorem q839 : (Jvm.Cond.fieldLink "java/lang/Boolean" (27 : Nat) "java/lang/Boolean" "TRUE" "Ljava/lang/Boolean;") ∈ lw_all := lw_g (lw_at lw_m4 80 rfl) rfl
theorem q840 : (Jvm.Cond.laysStatic "java/lang/Boolean" "TRUE" "Ljava/lang/Boolean;") ∈ lw_tbl := lw_at lw_m4 81 rfl
theorem q841 : (Jvm.Cond.fieldLink "java/lang/Boolean" (31 : Nat) "java/lang/Boolean" "FALSE" "Ljava/lang/Boolean;") ∈ lw_all := lw_g (lw_at lw_m4 82 rfl) rfl
theorem q842 : (Jvm.Cond.laysStatic "java/lang/Boolean" "FALSE" "Ljava/lang/Boolean;") ∈ lw_tbl := lw_at lw_m4 83 rfl
theorem q855 : (Jvm.Cond.instanceMethod ({ cls := "java/lang/Boolean", name := "booleanValue", desc := "()Z" } : Jvm.MethodName)) ∈ lw_all := lw_g (lw_at lw_m4 96 rfl) rfl
theorem q856 : (Jvm.Cond.selects "java/lang/Boolean" ({ cls := "java/lang/Boolean", name := "booleanValue", desc := "()Z" } : Jvm.MethodName) ({ cls := "java/lang/Boolean", name := "booleanValue", desc := "()Z" } : Jvm.MethodName)) ∈ lw_all := lw_g (lw_at lw_m4 97 rfl) rfl
theorem q857 : (Jvm.Cond.code ({ cls := "java/lang/Boolean", name := "booleanValue", desc := "()Z" } : Jvm.MethodName) prog_27_method_4_code (1 : Nat) (Option.some Jvm.ClassFile.FieldType.boolean)) ∈ lw_all := lw_g (lw_at lw_m4 98 rfl) rfl
theorem q1229 : (Jvm.Cond.castable "java/lang/Boolean" "java/lang/Comparable") ∈ lw_tbl := lw_at lw_m5 230 rfl
theorem q1230 : (Jvm.Cond.selects "java/lang/Boolean" ({ cls := "java/lang/Comparable", name := "compareTo", desc := "(Ljava/lang/Object;)I" } : Jvm.MethodName) ({ cls := "java/lang/Boolean", name := "compareTo", desc := "(Ljava/lang/Object;)I" } : Jvm.MethodName)) ∈ lw_all := lw_g (lw_at lw_m5 231 rfl) rfl
theorem q1231 : (Jvm.Cond.unhidden "java/lang/Boolean" "compareTo" "(Ljava/lang/Object;)I") ∈ lw_tbl := lw_at lw_m5 232 rfl
theorem q1232 : (Jvm.Cond.instanceMethod ({ cls := "java/lang/Boolean", name := "compareTo", desc := "(Ljava/lang/Object;)I" } : Jvm.MethodName)) ∈ lw_all := lw_g (lw_at lw_m5 233 rfl) rfl
theorem q1233 : (Jvm.Cond.publicMethod ({ cls := "java/lang/Boolean", name := "compareTo", desc := "(Ljava/lang/Object;)I" } : Jvm.MethodName)) ∈ lw_tbl := lw_at lw_m5 234 rfl
theorem q1234 : (Jvm.Cond.code ({ cls := "java/lang/Boolean", name := "compareTo", desc := "(Ljava/lang/Object;)I" } : Jvm.MethodName) prog_27_method_19_code (2 : Nat) (Option.some Jvm.ClassFile.FieldType.int)) ∈ lw_all := lw_g (lw_at lw_m5 235 rfl) rfl
theorem q1235 : (Jvm.Cond.classLink "java/lang/Boolean" (8 : Nat) "java/lang/Boolean") ∈ lw_all := lw_g (lw_at lw_m5 236 rfl) rfl
theorem q1236 : (Jvm.Cond.methodLink "java/lang/Boolean" (73 : Nat) ({ cls := "java/lang/Boolean", name := "compareTo", desc := "(Ljava/lang/Boolean;)I" } : Jvm.MethodName)) ∈ lw_all := lw_g (lw_at lw_m5 237 rfl) rfl
theorem q1237 : (Jvm.Cond.instanceMethod ({ cls := "java/lang/Boolean", name := "compareTo", desc := "(Ljava/lang/Boolean;)I" } : Jvm.MethodName)) ∈ lw_all := lw_g (lw_at lw_m5 238 rfl) rfl
theorem q1238 : (Jvm.Cond.selects "java/lang/Boolean" ({ cls := "java/lang/Boolean", name := "compareTo", desc := "(Ljava/lang/Boolean;)I" } : Jvm.MethodName) ({ cls := "java/lang/Boolean", name := "compareTo", desc := "(Ljava/lang/Boolean;)I" } : Jvm.MethodName)) ∈ lw_all := lw_g (lw_at lw_m5 239 rfl) rfl
theorem q1239 : (Jvm.Cond.code ({ cls := "java/lang/Boolean", name := "compareTo", desc := "(Ljava/lang/Boolean;)I" } : Jvm.MethodName) prog_27_method_13_code (2 : Nat) (Option.some Jvm.ClassFile.FieldType.int)) ∈ lw_all := lw_g (lw_at lw_m6 0 rfl) rfl
theorem q1240 : (Jvm.Cond.methodLink "java/lang/Boolean" (56 : Nat) ({ cls := "java/lang/Boolean", name := "compare", desc := "(ZZ)I" } : Jvm.MethodName)) ∈ lw_all := lw_g (lw_at lw_m6 1 rfl) rfl
theorem q1241 : (Jvm.Cond.static ({ cls := "java/lang/Boolean", name := "compare", desc := "(ZZ)I" } : Jvm.MethodName)) ∈ lw_all := lw_g (lw_at lw_m6 2 rfl) rfl
theorem q1242 : (Jvm.Cond.code ({ cls := "java/lang/Boolean", name := "compare", desc := "(ZZ)I" } : Jvm.MethodName) prog_27_method_14_code (2 : Nat) (Option.some Jvm.ClassFile.FieldType.int)) ∈ lw_all := lw_g (lw_at lw_m6 3 rfl) rfl
theorem q2001 : (Jvm.Cond.castable "java/lang/Boolean" "java/lang/Object") ∈ lw_tbl := lw_at lw_m9 42 rfl
theorem q2029 : (Jvm.Cond.fieldLink "java/lang/Boolean" (7 : Nat) "java/lang/Boolean" "value" "Z") ∈ lw_all := lw_g (lw_at lw_m9 70 rfl) rfl

/-! java/util/ArrayList$Itr -/
set_option maxRecDepth 100000
def RJ21 : String := "java/util/ArrayList$Itr"
def TJ21 : u_T := fun k => match k with
  | 0 => ("java/util/ArrayList$Itr", "cursor", "I", false)
  | 1 => ("java/util/ArrayList$Itr", "lastRet", "I", false)
  | 2 => ("java/util/ArrayList$Itr", "expectedModCount", "I", false)
  | _ => ("java/util/ArrayList$Itr", "this$0", "Ljava/util/ArrayList;", true)
def tyJ21 : Nat → FieldType := fun k => match k with
  | 0 => .int
  | 1 => .int
  | 2 => .int
  | _ => .object "java/util/ArrayList"
abbrev wsJ210 : List Cond := u_ws RJ21 TJ21 4
theorem nmJ21 : ∀ a, a < 4 → ∀ b, b < 4 → a ≠ b → (TJ21 a).2.1 ≠ (TJ21 b).2.1 := by decide +kernel
theorem tyJ21_ok : ∀ k, k < 4 → parseFieldDescriptor (TJ21 k).2.2.1 = some (tyJ21 k) := by decide +kernel
abbrev cJ21_init : ByteArray := prog_51_method_1_code
def yJ21_init : MethodName := ⟨RJ21, "<init>", "(Ljava/util/ArrayList;)V"⟩
def dkwJ21_init_1 : List UInt8 := [181, 0, 22, 177]
abbrev dktJ21_init_1 : List UInt8 := dkwJ21_init_1 ++ []
def dkwJ21_init_0 : List UInt8 := [42, 43, 181, 0, 1, 42, 183, 0, 7, 42, 2, 181, 0, 13, 42, 42, 180, 0, 1, 180, 0, 17]
abbrev dktJ21_init_0 : List UInt8 := dkwJ21_init_0 ++ dktJ21_init_1
theorem dksJ21_init_0 : cJ21_init.data.toList.drop 0 = dktJ21_init_0 := by decide +kernel
theorem dksJ21_init_1 : cJ21_init.data.toList.drop 22 = dktJ21_init_1 := dk_seg dksJ21_init_0 22 rfl rfl
theorem dJ21_init_0 : decode cJ21_init 0 = .ok (.aload_n 0, 1) := dk_42 (dk_at dksJ21_init_0 0 rfl rfl)
theorem dJ21_init_1 : decode cJ21_init 1 = .ok (.aload_n 1, 1) := dk_43 (dk_at dksJ21_init_0 1 rfl rfl)
theorem dJ21_init_2 : decode cJ21_init 2 = .ok (.putfield 1, 3) := dk_181 0 1 (dk_at dksJ21_init_0 2 rfl rfl)
theorem dJ21_init_5 : decode cJ21_init 5 = .ok (.aload_n 0, 1) := dk_42 (dk_at dksJ21_init_0 5 rfl rfl)
theorem dJ21_init_6 : decode cJ21_init 6 = .ok (.invokespecial 7, 3) := dk_183 0 7 (dk_at dksJ21_init_0 6 rfl rfl)
theorem dJ21_init_9 : decode cJ21_init 9 = .ok (.aload_n 0, 1) := dk_42 (dk_at dksJ21_init_0 9 rfl rfl)
theorem dJ21_init_10 : decode cJ21_init 10 = .ok (.iconst (-1), 1) := dk_2 (dk_at dksJ21_init_0 10 rfl rfl)
theorem dJ21_init_11 : decode cJ21_init 11 = .ok (.putfield 13, 3) := dk_181 0 13 (dk_at dksJ21_init_0 11 rfl rfl)
theorem dJ21_init_14 : decode cJ21_init 14 = .ok (.aload_n 0, 1) := dk_42 (dk_at dksJ21_init_0 14 rfl rfl)
theorem dJ21_init_15 : decode cJ21_init 15 = .ok (.aload_n 0, 1) := dk_42 (dk_at dksJ21_init_0 15 rfl rfl)
theorem dJ21_init_16 : decode cJ21_init 16 = .ok (.getfield 1, 3) := dk_180 0 1 (dk_at dksJ21_init_0 16 rfl rfl)
theorem dJ21_init_19 : decode cJ21_init 19 = .ok (.getfield 17, 3) := dk_180 0 17 (dk_at dksJ21_init_0 19 rfl rfl)
theorem dJ21_init_22 : decode cJ21_init 22 = .ok (.putfield 22, 3) := dk_181 0 22 (dk_at dksJ21_init_1 0 rfl rfl)
theorem dJ21_init_25 : decode cJ21_init 25 = .ok (.return_, 1) := dk_177 (dk_at dksJ21_init_1 3 rfl rfl)
abbrev cJ21_hasNext : ByteArray := prog_51_method_2_code
def yJ21_hasNext : MethodName := ⟨RJ21, "hasNext", "()Z"⟩
def dkwJ21_hasNext_0 : List UInt8 := [42, 180, 0, 25, 42, 180, 0, 1, 180, 0, 28, 159, 0, 7, 4, 167, 0, 4, 3, 172]
abbrev dktJ21_hasNext_0 : List UInt8 := dkwJ21_hasNext_0 ++ []
theorem dksJ21_hasNext_0 : cJ21_hasNext.data.toList.drop 0 = dktJ21_hasNext_0 := by decide +kernel
theorem dJ21_hasNext_0 : decode cJ21_hasNext 0 = .ok (.aload_n 0, 1) := dk_42 (dk_at dksJ21_hasNext_0 0 rfl rfl)
theorem dJ21_hasNext_1 : decode cJ21_hasNext 1 = .ok (.getfield 25, 3) := dk_180 0 25 (dk_at dksJ21_hasNext_0 1 rfl rfl)
theorem dJ21_hasNext_4 : decode cJ21_hasNext 4 = .ok (.aload_n 0, 1) := dk_42 (dk_at dksJ21_hasNext_0 4 rfl rfl)
theorem dJ21_hasNext_5 : decode cJ21_hasNext 5 = .ok (.getfield 1, 3) := dk_180 0 1 (dk_at dksJ21_hasNext_0 5 rfl rfl)
theorem dJ21_hasNext_8 : decode cJ21_hasNext 8 = .ok (.getfield 28, 3) := dk_180 0 28 (dk_at dksJ21_hasNext_0 8 rfl rfl)
theorem dJ21_hasNext_11 : decode cJ21_hasNext 11 = .ok (.if_icmp .eq 7, 3) := dk_159 0 7 (dk_at dksJ21_hasNext_0 11 rfl rfl)
theorem dJ21_hasNext_14 : decode cJ21_hasNext 14 = .ok (.iconst 1, 1) := dk_4 (dk_at dksJ21_hasNext_0 14 rfl rfl)
theorem dJ21_hasNext_15 : decode cJ21_hasNext 15 = .ok (.goto 4, 3) := dk_167 0 4 (dk_at dksJ21_hasNext_0 15 rfl rfl)
theorem dJ21_hasNext_18 : decode cJ21_hasNext 18 = .ok (.iconst 0, 1) := dk_3 (dk_at dksJ21_hasNext_0 18 rfl rfl)
theorem dJ21_hasNext_19 : decode cJ21_hasNext 19 = .ok (.ireturn, 1) := dk_172 (dk_at dksJ21_hasNext_0 19 rfl rfl)
abbrev cJ21_next : ByteArray := prog_51_method_3_code
def yJ21_next : MethodName := ⟨RJ21, "next", "()Ljava/lang/Object;"⟩
def dkwJ21_next_2 : List UInt8 := [183, 0, 43, 191, 42, 27, 4, 96, 181, 0, 25, 44, 42, 27, 90, 181, 0, 13, 50, 176]
abbrev dktJ21_next_2 : List UInt8 := dkwJ21_next_2 ++ []
def dkwJ21_next_1 : List UInt8 := [183, 0, 36, 191, 42, 180, 0, 1, 180, 0, 37, 77, 27, 44, 190, 161, 0, 11, 187, 0, 41, 89]
abbrev dktJ21_next_1 : List UInt8 := dkwJ21_next_1 ++ dktJ21_next_2
def dkwJ21_next_0 : List UInt8 := [42, 182, 0, 31, 42, 180, 0, 25, 60, 27, 42, 180, 0, 1, 180, 0, 28, 161, 0, 11, 187, 0, 34, 89]
abbrev dktJ21_next_0 : List UInt8 := dkwJ21_next_0 ++ dktJ21_next_1
theorem dksJ21_next_0 : cJ21_next.data.toList.drop 0 = dktJ21_next_0 := by decide +kernel
theorem dksJ21_next_1 : cJ21_next.data.toList.drop 24 = dktJ21_next_1 := dk_seg dksJ21_next_0 24 rfl rfl
theorem dksJ21_next_2 : cJ21_next.data.toList.drop 46 = dktJ21_next_2 := dk_seg dksJ21_next_1 22 rfl rfl
theorem dJ21_next_0 : decode cJ21_next 0 = .ok (.aload_n 0, 1) := dk_42 (dk_at dksJ21_next_0 0 rfl rfl)
theorem dJ21_next_1 : decode cJ21_next 1 = .ok (.invokevirtual 31, 3) := dk_182 0 31 (dk_at dksJ21_next_0 1 rfl rfl)
theorem dJ21_next_4 : decode cJ21_next 4 = .ok (.aload_n 0, 1) := dk_42 (dk_at dksJ21_next_0 4 rfl rfl)
theorem dJ21_next_5 : decode cJ21_next 5 = .ok (.getfield 25, 3) := dk_180 0 25 (dk_at dksJ21_next_0 5 rfl rfl)
theorem dJ21_next_8 : decode cJ21_next 8 = .ok (.istore_n 1, 1) := dk_60 (dk_at dksJ21_next_0 8 rfl rfl)
theorem dJ21_next_9 : decode cJ21_next 9 = .ok (.iload_n 1, 1) := dk_27 (dk_at dksJ21_next_0 9 rfl rfl)
theorem dJ21_next_10 : decode cJ21_next 10 = .ok (.aload_n 0, 1) := dk_42 (dk_at dksJ21_next_0 10 rfl rfl)
theorem dJ21_next_11 : decode cJ21_next 11 = .ok (.getfield 1, 3) := dk_180 0 1 (dk_at dksJ21_next_0 11 rfl rfl)
theorem dJ21_next_14 : decode cJ21_next 14 = .ok (.getfield 28, 3) := dk_180 0 28 (dk_at dksJ21_next_0 14 rfl rfl)
theorem dJ21_next_17 : decode cJ21_next 17 = .ok (.if_icmp .lt 11, 3) := dk_161 0 11 (dk_at dksJ21_next_0 17 rfl rfl)
theorem dJ21_next_20 : decode cJ21_next 20 = .ok (.new 34, 3) := dk_187 0 34 (dk_at dksJ21_next_0 20 rfl rfl)
theorem dJ21_next_23 : decode cJ21_next 23 = .ok (.dup, 1) := dk_89 (dk_at dksJ21_next_0 23 rfl rfl)
theorem dJ21_next_24 : decode cJ21_next 24 = .ok (.invokespecial 36, 3) := dk_183 0 36 (dk_at dksJ21_next_1 0 rfl rfl)
theorem dJ21_next_27 : decode cJ21_next 27 = .ok (.athrow, 1) := dk_191 (dk_at dksJ21_next_1 3 rfl rfl)
theorem dJ21_next_28 : decode cJ21_next 28 = .ok (.aload_n 0, 1) := dk_42 (dk_at dksJ21_next_1 4 rfl rfl)
theorem dJ21_next_29 : decode cJ21_next 29 = .ok (.getfield 1, 3) := dk_180 0 1 (dk_at dksJ21_next_1 5 rfl rfl)
theorem dJ21_next_32 : decode cJ21_next 32 = .ok (.getfield 37, 3) := dk_180 0 37 (dk_at dksJ21_next_1 8 rfl rfl)
theorem dJ21_next_35 : decode cJ21_next 35 = .ok (.astore_n 2, 1) := dk_77 (dk_at dksJ21_next_1 11 rfl rfl)
theorem dJ21_next_36 : decode cJ21_next 36 = .ok (.iload_n 1, 1) := dk_27 (dk_at dksJ21_next_1 12 rfl rfl)
theorem dJ21_next_37 : decode cJ21_next 37 = .ok (.aload_n 2, 1) := dk_44 (dk_at dksJ21_next_1 13 rfl rfl)
theorem dJ21_next_38 : decode cJ21_next 38 = .ok (.arraylength, 1) := dk_190 (dk_at dksJ21_next_1 14 rfl rfl)
theorem dJ21_next_39 : decode cJ21_next 39 = .ok (.if_icmp .lt 11, 3) := dk_161 0 11 (dk_at dksJ21_next_1 15 rfl rfl)
theorem dJ21_next_42 : decode cJ21_next 42 = .ok (.new 41, 3) := dk_187 0 41 (dk_at dksJ21_next_1 18 rfl rfl)
theorem dJ21_next_45 : decode cJ21_next 45 = .ok (.dup, 1) := dk_89 (dk_at dksJ21_next_1 21 rfl rfl)
theorem dJ21_next_46 : decode cJ21_next 46 = .ok (.invokespecial 43, 3) := dk_183 0 43 (dk_at dksJ21_next_2 0 rfl rfl)
theorem dJ21_next_49 : decode cJ21_next 49 = .ok (.athrow, 1) := dk_191 (dk_at dksJ21_next_2 3 rfl rfl)
theorem dJ21_next_50 : decode cJ21_next 50 = .ok (.aload_n 0, 1) := dk_42 (dk_at dksJ21_next_2 4 rfl rfl)
theorem dJ21_next_51 : decode cJ21_next 51 = .ok (.iload_n 1, 1) := dk_27 (dk_at dksJ21_next_2 5 rfl rfl)
theorem dJ21_next_52 : decode cJ21_next 52 = .ok (.iconst 1, 1) := dk_4 (dk_at dksJ21_next_2 6 rfl rfl)
theorem dJ21_next_53 : decode cJ21_next 53 = .ok (.iadd, 1) := dk_96 (dk_at dksJ21_next_2 7 rfl rfl)
theorem dJ21_next_54 : decode cJ21_next 54 = .ok (.putfield 25, 3) := dk_181 0 25 (dk_at dksJ21_next_2 8 rfl rfl)
theorem dJ21_next_57 : decode cJ21_next 57 = .ok (.aload_n 2, 1) := dk_44 (dk_at dksJ21_next_2 11 rfl rfl)
theorem dJ21_next_58 : decode cJ21_next 58 = .ok (.aload_n 0, 1) := dk_42 (dk_at dksJ21_next_2 12 rfl rfl)
theorem dJ21_next_59 : decode cJ21_next 59 = .ok (.iload_n 1, 1) := dk_27 (dk_at dksJ21_next_2 13 rfl rfl)
theorem dJ21_next_60 : decode cJ21_next 60 = .ok (.dup_x1, 1) := dk_90 (dk_at dksJ21_next_2 14 rfl rfl)
theorem dJ21_next_61 : decode cJ21_next 61 = .ok (.putfield 13, 3) := dk_181 0 13 (dk_at dksJ21_next_2 15 rfl rfl)
theorem dJ21_next_64 : decode cJ21_next 64 = .ok (.aaload, 1) := dk_50 (dk_at dksJ21_next_2 18 rfl rfl)
theorem dJ21_next_65 : decode cJ21_next 65 = .ok (.areturn, 1) := dk_176 (dk_at dksJ21_next_2 19 rfl rfl)
abbrev cJ21_checkForComodification : ByteArray := prog_51_method_6_code
def yJ21_checkForComodification : MethodName := ⟨RJ21, "checkForComodification", "()V"⟩
def dkwJ21_checkForComodification_0 : List UInt8 := [42, 180, 0, 1, 180, 0, 17, 42, 180, 0, 22, 159, 0, 11, 187, 0, 41, 89, 183, 0, 43, 191, 177]
abbrev dktJ21_checkForComodification_0 : List UInt8 := dkwJ21_checkForComodification_0 ++ []
theorem dksJ21_checkForComodification_0 : cJ21_checkForComodification.data.toList.drop 0 = dktJ21_checkForComodification_0 := by decide +kernel
theorem dJ21_checkForComodification_0 : decode cJ21_checkForComodification 0 = .ok (.aload_n 0, 1) := dk_42 (dk_at dksJ21_checkForComodification_0 0 rfl rfl)
theorem dJ21_checkForComodification_1 : decode cJ21_checkForComodification 1 = .ok (.getfield 1, 3) := dk_180 0 1 (dk_at dksJ21_checkForComodification_0 1 rfl rfl)
theorem dJ21_checkForComodification_4 : decode cJ21_checkForComodification 4 = .ok (.getfield 17, 3) := dk_180 0 17 (dk_at dksJ21_checkForComodification_0 4 rfl rfl)
theorem dJ21_checkForComodification_7 : decode cJ21_checkForComodification 7 = .ok (.aload_n 0, 1) := dk_42 (dk_at dksJ21_checkForComodification_0 7 rfl rfl)
theorem dJ21_checkForComodification_8 : decode cJ21_checkForComodification 8 = .ok (.getfield 22, 3) := dk_180 0 22 (dk_at dksJ21_checkForComodification_0 8 rfl rfl)
theorem dJ21_checkForComodification_11 : decode cJ21_checkForComodification 11 = .ok (.if_icmp .eq 11, 3) := dk_159 0 11 (dk_at dksJ21_checkForComodification_0 11 rfl rfl)
theorem dJ21_checkForComodification_14 : decode cJ21_checkForComodification 14 = .ok (.new 41, 3) := dk_187 0 41 (dk_at dksJ21_checkForComodification_0 14 rfl rfl)
theorem dJ21_checkForComodification_17 : decode cJ21_checkForComodification 17 = .ok (.dup, 1) := dk_89 (dk_at dksJ21_checkForComodification_0 17 rfl rfl)
theorem dJ21_checkForComodification_18 : decode cJ21_checkForComodification 18 = .ok (.invokespecial 43, 3) := dk_183 0 43 (dk_at dksJ21_checkForComodification_0 18 rfl rfl)
theorem dJ21_checkForComodification_21 : decode cJ21_checkForComodification 21 = .ok (.athrow, 1) := dk_191 (dk_at dksJ21_checkForComodification_0 21 rfl rfl)
theorem dJ21_checkForComodification_22 : decode cJ21_checkForComodification 22 = .ok (.return_, 1) := dk_177 (dk_at dksJ21_checkForComodification_0 22 rfl rfl)
theorem q79 : (Jvm.Cond.initialized "java/util/ArrayList$Itr") ∈ lw_all := lw_g (lw_at lw_m1 40 rfl) rfl
theorem q113 : (Jvm.Cond.fieldLink "java/util/ArrayList$Itr" (37 : Nat) "java/util/ArrayList" "elementData" "[Ljava/lang/Object;") ∈ lw_all := lw_g (lw_at lw_m1 74 rfl) rfl
theorem q114 : (Jvm.Cond.fieldLinkNest "java/util/ArrayList$Itr" (28 : Nat) "java/util/ArrayList" "size" "I" "java/util/ArrayList") ∈ lw_tbl := lw_at lw_m1 75 rfl
theorem q117 : (Jvm.Cond.fieldLink "java/util/ArrayList$Itr" (17 : Nat) "java/util/ArrayList" "modCount" "I") ∈ lw_all := lw_g (lw_at lw_m1 78 rfl) rfl
theorem q194 : (Jvm.Cond.instantiable "java/util/ArrayList$Itr" (4 : Nat)) ∈ lw_all := lw_g (lw_at lw_m1 155 rfl) rfl
theorem q196 : (Jvm.Cond.instanceMethod ({ cls := "java/util/ArrayList$Itr", name := "<init>", desc := "(Ljava/util/ArrayList;)V" } : Jvm.MethodName)) ∈ lw_all := lw_g (lw_at lw_m1 157 rfl) rfl
theorem q197 : (Jvm.Cond.code ({ cls := "java/util/ArrayList$Itr", name := "<init>", desc := "(Ljava/util/ArrayList;)V" } : Jvm.MethodName) prog_51_method_1_code (2 : Nat) (Option.none : Option Jvm.ClassFile.FieldType)) ∈ lw_all := lw_g (lw_at lw_m1 158 rfl) rfl
theorem q198 : (Jvm.Cond.methodLink "java/util/ArrayList$Itr" (7 : Nat) ({ cls := "java/lang/Object", name := "<init>", desc := "()V" } : Jvm.MethodName)) ∈ lw_all := lw_g (lw_at lw_m1 159 rfl) rfl
theorem q199 : (Jvm.Cond.fieldLink "java/util/ArrayList$Itr" (25 : Nat) "java/util/ArrayList$Itr" "cursor" "I") ∈ lw_all := lw_g (lw_at lw_m1 160 rfl) rfl
theorem q200 : (Jvm.Cond.fieldLink "java/util/ArrayList$Itr" (13 : Nat) "java/util/ArrayList$Itr" "lastRet" "I") ∈ lw_all := lw_g (lw_at lw_m1 161 rfl) rfl
theorem q201 : (Jvm.Cond.fieldLink "java/util/ArrayList$Itr" (22 : Nat) "java/util/ArrayList$Itr" "expectedModCount" "I") ∈ lw_all := lw_g (lw_at lw_m1 162 rfl) rfl
theorem q202 : (Jvm.Cond.fieldLink "java/util/ArrayList$Itr" (1 : Nat) "java/util/ArrayList$Itr" "this$0" "Ljava/util/ArrayList;") ∈ lw_all := lw_g (lw_at lw_m1 163 rfl) rfl
theorem q203 : (Jvm.Cond.lays "java/util/ArrayList$Itr" "java/util/ArrayList$Itr" "cursor" "I") ∈ lw_all := lw_g (lw_at lw_m1 164 rfl) rfl
theorem q204 : (Jvm.Cond.soleField "java/util/ArrayList$Itr" "cursor") ∈ lw_all := lw_g (lw_at lw_m1 165 rfl) rfl
theorem q205 : (Jvm.Cond.lays "java/util/ArrayList$Itr" "java/util/ArrayList$Itr" "lastRet" "I") ∈ lw_all := lw_g (lw_at lw_m1 166 rfl) rfl
theorem q206 : (Jvm.Cond.soleField "java/util/ArrayList$Itr" "lastRet") ∈ lw_all := lw_g (lw_at lw_m1 167 rfl) rfl
theorem q207 : (Jvm.Cond.lays "java/util/ArrayList$Itr" "java/util/ArrayList$Itr" "expectedModCount" "I") ∈ lw_all := lw_g (lw_at lw_m1 168 rfl) rfl
theorem q208 : (Jvm.Cond.soleField "java/util/ArrayList$Itr" "expectedModCount") ∈ lw_all := lw_g (lw_at lw_m1 169 rfl) rfl
theorem q209 : (Jvm.Cond.laysFinal "java/util/ArrayList$Itr" "java/util/ArrayList$Itr" "this$0" "Ljava/util/ArrayList;") ∈ lw_all := lw_g (lw_at lw_m1 170 rfl) rfl
theorem q210 : (Jvm.Cond.soleField "java/util/ArrayList$Itr" "this$0") ∈ lw_all := lw_g (lw_at lw_m1 171 rfl) rfl
theorem q211 : (Jvm.Cond.superclass "java/util/ArrayList$Itr" "java/lang/Object") ∈ lw_all := lw_g (lw_at lw_m1 172 rfl) rfl
theorem q216 : (Jvm.Cond.castable "java/util/ArrayList$Itr" "java/util/Iterator") ∈ lw_tbl := lw_at lw_m1 177 rfl
theorem q217 : (Jvm.Cond.selects "java/util/ArrayList$Itr" ({ cls := "java/util/Iterator", name := "hasNext", desc := "()Z" } : Jvm.MethodName) ({ cls := "java/util/ArrayList$Itr", name := "hasNext", desc := "()Z" } : Jvm.MethodName)) ∈ lw_all := lw_g (lw_at lw_m1 178 rfl) rfl
theorem q218 : (Jvm.Cond.unhidden "java/util/ArrayList$Itr" "hasNext" "()Z") ∈ lw_tbl := lw_at lw_m1 179 rfl
theorem q219 : (Jvm.Cond.instanceMethod ({ cls := "java/util/ArrayList$Itr", name := "hasNext", desc := "()Z" } : Jvm.MethodName)) ∈ lw_all := lw_g (lw_at lw_m1 180 rfl) rfl
theorem q220 : (Jvm.Cond.publicMethod ({ cls := "java/util/ArrayList$Itr", name := "hasNext", desc := "()Z" } : Jvm.MethodName)) ∈ lw_tbl := lw_at lw_m1 181 rfl
theorem q221 : (Jvm.Cond.code ({ cls := "java/util/ArrayList$Itr", name := "hasNext", desc := "()Z" } : Jvm.MethodName) prog_51_method_2_code (1 : Nat) (Option.some Jvm.ClassFile.FieldType.boolean)) ∈ lw_all := lw_g (lw_at lw_m1 182 rfl) rfl
theorem q226 : (Jvm.Cond.selects "java/util/ArrayList$Itr" ({ cls := "java/util/Iterator", name := "next", desc := "()Ljava/lang/Object;" } : Jvm.MethodName) ({ cls := "java/util/ArrayList$Itr", name := "next", desc := "()Ljava/lang/Object;" } : Jvm.MethodName)) ∈ lw_all := lw_g (lw_at lw_m1 187 rfl) rfl
theorem q227 : (Jvm.Cond.unhidden "java/util/ArrayList$Itr" "next" "()Ljava/lang/Object;") ∈ lw_tbl := lw_at lw_m1 188 rfl
theorem q228 : (Jvm.Cond.instanceMethod ({ cls := "java/util/ArrayList$Itr", name := "next", desc := "()Ljava/lang/Object;" } : Jvm.MethodName)) ∈ lw_all := lw_g (lw_at lw_m1 189 rfl) rfl
theorem q229 : (Jvm.Cond.publicMethod ({ cls := "java/util/ArrayList$Itr", name := "next", desc := "()Ljava/lang/Object;" } : Jvm.MethodName)) ∈ lw_tbl := lw_at lw_m1 190 rfl
theorem q230 : (Jvm.Cond.code ({ cls := "java/util/ArrayList$Itr", name := "next", desc := "()Ljava/lang/Object;" } : Jvm.MethodName) prog_51_method_3_code (3 : Nat) (Option.some (Jvm.ClassFile.FieldType.object "java/lang/Object"))) ∈ lw_all := lw_g (lw_at lw_m1 191 rfl) rfl
theorem q231 : (Jvm.Cond.methodLink "java/util/ArrayList$Itr" (31 : Nat) ({ cls := "java/util/ArrayList$Itr", name := "checkForComodification", desc := "()V" } : Jvm.MethodName)) ∈ lw_all := lw_g (lw_at lw_m1 192 rfl) rfl
theorem q232 : (Jvm.Cond.instanceMethod ({ cls := "java/util/ArrayList$Itr", name := "checkForComodification", desc := "()V" } : Jvm.MethodName)) ∈ lw_all := lw_g (lw_at lw_m1 193 rfl) rfl
theorem q233 : (Jvm.Cond.selects "java/util/ArrayList$Itr" ({ cls := "java/util/ArrayList$Itr", name := "checkForComodification", desc := "()V" } : Jvm.MethodName) ({ cls := "java/util/ArrayList$Itr", name := "checkForComodification", desc := "()V" } : Jvm.MethodName)) ∈ lw_all := lw_g (lw_at lw_m1 194 rfl) rfl
theorem q234 : (Jvm.Cond.code ({ cls := "java/util/ArrayList$Itr", name := "checkForComodification", desc := "()V" } : Jvm.MethodName) prog_51_method_6_code (1 : Nat) (Option.none : Option Jvm.ClassFile.FieldType)) ∈ lw_all := lw_g (lw_at lw_m1 195 rfl) rfl
theorem q235 : (Jvm.Cond.classLink "java/util/ArrayList$Itr" (34 : Nat) "java/util/NoSuchElementException") ∈ lw_all := lw_g (lw_at lw_m1 196 rfl) rfl
theorem q281 : (Jvm.Cond.methodLink "java/util/ArrayList$Itr" (36 : Nat) ({ cls := "java/util/NoSuchElementException", name := "<init>", desc := "()V" } : Jvm.MethodName)) ∈ lw_all := lw_g (lw_at lw_m2 2 rfl) rfl
theorem q586 : (Jvm.Cond.selects "java/util/ArrayList$Itr" ({ cls := "java/lang/Object", name := "getClass", desc := "()Ljava/lang/Class;" } : Jvm.MethodName) ({ cls := "java/lang/Object", name := "getClass", desc := "()Ljava/lang/Class;" } : Jvm.MethodName)) ∈ lw_all := lw_g (lw_at lw_m3 67 rfl) rfl
theorem q2005 : (Jvm.Cond.castable "java/util/ArrayList$Itr" "java/lang/Object") ∈ lw_tbl := lw_at lw_m9 46 rfl
theorem in_J21 : ∀ w ∈ wsJ210, w ∈ lw_all := lw_in wsJ210 [203, 205, 207, 209] (by decide +kernel) (by decide +kernel)

/-! java/util/NoSuchElementException -/
set_option maxRecDepth 100000
def RJ22 : String := "java/util/NoSuchElementException"
def TJ22 : u_T := fun k => match k with
  | 0 => ("java/lang/Throwable", "cause", "Ljava/lang/Throwable;", false)
  | 1 => ("java/lang/Throwable", "stackTrace", "[Ljava/lang/StackTraceElement;", false)
  | 2 => ("java/lang/Throwable", "suppressedExceptions", "Ljava/util/List;", false)
  | 3 => ("java/lang/Throwable", "detailMessage", "Ljava/lang/String;", false)
  | 4 => ("java/lang/Throwable", "backtrace", "Ljava/lang/Object;", false)
  | _ => ("java/lang/Throwable", "depth", "I", false)
def tyJ22 : Nat → FieldType := fun k => match k with
  | 0 => .object "java/lang/Throwable"
  | 1 => .array (.object "java/lang/StackTraceElement")
  | 2 => .object "java/util/List"
  | 3 => .object "java/lang/String"
  | 4 => .object "java/lang/Object"
  | _ => .int
abbrev wsJ220 : List Cond := u_ws RJ22 TJ22 6
theorem nmJ22 : ∀ a, a < 6 → ∀ b, b < 6 → a ≠ b → (TJ22 a).2.1 ≠ (TJ22 b).2.1 := by decide +kernel
theorem tyJ22_ok : ∀ k, k < 6 → parseFieldDescriptor (TJ22 k).2.2.1 = some (tyJ22 k) := by decide +kernel
abbrev cJ22_init : ByteArray := prog_57_method_1_code
def yJ22_init : MethodName := ⟨RJ22, "<init>", "()V"⟩
theorem dJ22_init_0 : decode cJ22_init 0 = .ok (.aload_n 0, 1) := by decide +kernel
theorem dJ22_init_1 : decode cJ22_init 1 = .ok (.invokespecial 1, 3) := by decide +kernel
theorem dJ22_init_4 : decode cJ22_init 4 = .ok (.return_, 1) := by decide +kernel
theorem q80 : (Jvm.Cond.initialized "java/util/NoSuchElementException") ∈ lw_all := lw_g (lw_at lw_m1 41 rfl) rfl
theorem q236 : (Jvm.Cond.instantiable "java/util/NoSuchElementException" (6 : Nat)) ∈ lw_all := lw_g (lw_at lw_m1 197 rfl) rfl
theorem q237 : (Jvm.Cond.castable "java/util/NoSuchElementException" "java/util/NoSuchElementException") ∈ lw_tbl := lw_at lw_m1 198 rfl
theorem q244 : (Jvm.Cond.selects "java/util/NoSuchElementException" ({ cls := "java/lang/Throwable", name := "fillInStackTrace", desc := "(I)Ljava/lang/Throwable;" } : Jvm.MethodName) ({ cls := "java/lang/Throwable", name := "fillInStackTrace", desc := "(I)Ljava/lang/Throwable;" } : Jvm.MethodName)) ∈ lw_all := lw_g (lw_at lw_m1 205 rfl) rfl
theorem q245 : (Jvm.Cond.selects "java/util/NoSuchElementException" ({ cls := "java/lang/Throwable", name := "fillInStackTrace", desc := "()Ljava/lang/Throwable;" } : Jvm.MethodName) ({ cls := "java/lang/Throwable", name := "fillInStackTrace", desc := "()Ljava/lang/Throwable;" } : Jvm.MethodName)) ∈ lw_all := lw_g (lw_at lw_m1 206 rfl) rfl
theorem q246 : (Jvm.Cond.lays "java/util/NoSuchElementException" "java/lang/Throwable" "cause" "Ljava/lang/Throwable;") ∈ lw_all := lw_g (lw_at lw_m1 207 rfl) rfl
theorem q248 : (Jvm.Cond.lays "java/util/NoSuchElementException" "java/lang/Throwable" "stackTrace" "[Ljava/lang/StackTraceElement;") ∈ lw_all := lw_g (lw_at lw_m1 209 rfl) rfl
theorem q250 : (Jvm.Cond.lays "java/util/NoSuchElementException" "java/lang/Throwable" "suppressedExceptions" "Ljava/util/List;") ∈ lw_all := lw_g (lw_at lw_m1 211 rfl) rfl
theorem q252 : (Jvm.Cond.lays "java/util/NoSuchElementException" "java/lang/Throwable" "detailMessage" "Ljava/lang/String;") ∈ lw_all := lw_g (lw_at lw_m1 213 rfl) rfl
theorem q254 : (Jvm.Cond.lays "java/util/NoSuchElementException" "java/lang/Throwable" "backtrace" "Ljava/lang/Object;") ∈ lw_all := lw_g (lw_at lw_m1 215 rfl) rfl
theorem q282 : (Jvm.Cond.instanceMethod ({ cls := "java/util/NoSuchElementException", name := "<init>", desc := "()V" } : Jvm.MethodName)) ∈ lw_all := lw_g (lw_at lw_m2 3 rfl) rfl
theorem q283 : (Jvm.Cond.code ({ cls := "java/util/NoSuchElementException", name := "<init>", desc := "()V" } : Jvm.MethodName) prog_57_method_1_code (1 : Nat) (Option.none : Option Jvm.ClassFile.FieldType)) ∈ lw_all := lw_g (lw_at lw_m2 4 rfl) rfl
theorem q284 : (Jvm.Cond.methodLink "java/util/NoSuchElementException" (1 : Nat) ({ cls := "java/lang/RuntimeException", name := "<init>", desc := "()V" } : Jvm.MethodName)) ∈ lw_all := lw_g (lw_at lw_m2 5 rfl) rfl
theorem q300 : (Jvm.Cond.lays "java/util/NoSuchElementException" "java/lang/Throwable" "depth" "I") ∈ lw_all := lw_g (lw_at lw_m2 21 rfl) rfl
theorem q303 : (Jvm.Cond.superclass "java/util/NoSuchElementException" "java/lang/RuntimeException") ∈ lw_all := lw_g (lw_at lw_m2 24 rfl) rfl
theorem q587 : (Jvm.Cond.selects "java/util/NoSuchElementException" ({ cls := "java/lang/Object", name := "getClass", desc := "()Ljava/lang/Class;" } : Jvm.MethodName) ({ cls := "java/lang/Object", name := "getClass", desc := "()Ljava/lang/Class;" } : Jvm.MethodName)) ∈ lw_all := lw_g (lw_at lw_m3 68 rfl) rfl
theorem q2006 : (Jvm.Cond.castable "java/util/NoSuchElementException" "java/lang/Object") ∈ lw_tbl := lw_at lw_m9 47 rfl
theorem in_J22 : ∀ w ∈ wsJ220, w ∈ lw_all := lw_in wsJ220 [246, 248, 250, 252, 254, 300] (by decide +kernel) (by decide +kernel)

/-! java/lang/Number -/
set_option maxRecDepth 100000
def RJ23 : String := "java/lang/Number"
abbrev cJ23_init : ByteArray := prog_39_method_1_code
def yJ23_init : MethodName := ⟨RJ23, "<init>", "()V"⟩
theorem dJ23_init_0 : decode cJ23_init 0 = .ok (.aload_n 0, 1) := by decide +kernel
theorem dJ23_init_1 : decode cJ23_init 1 = .ok (.invokespecial 1, 3) := by decide +kernel
theorem dJ23_init_4 : decode cJ23_init 4 = .ok (.return_, 1) := by decide +kernel
theorem q86 : (Jvm.Cond.initialized "java/lang/Number") ∈ lw_all := lw_g (lw_at lw_m1 47 rfl) rfl
theorem q1846 : (Jvm.Cond.instanceMethod ({ cls := "java/lang/Number", name := "<init>", desc := "()V" } : Jvm.MethodName)) ∈ lw_all := lw_g (lw_at lw_m8 127 rfl) rfl
theorem q1847 : (Jvm.Cond.code ({ cls := "java/lang/Number", name := "<init>", desc := "()V" } : Jvm.MethodName) prog_39_method_1_code (1 : Nat) (Option.none : Option Jvm.ClassFile.FieldType)) ∈ lw_all := lw_g (lw_at lw_m8 128 rfl) rfl
theorem q1848 : (Jvm.Cond.methodLink "java/lang/Number" (1 : Nat) ({ cls := "java/lang/Object", name := "<init>", desc := "()V" } : Jvm.MethodName)) ∈ lw_all := lw_g (lw_at lw_m8 129 rfl) rfl

/-! java/lang/Integer -/
set_option maxRecDepth 100000
def RJ24 : String := "java/lang/Integer"
def TJ24 : u_T := fun k => match k with
  | _ => ("java/lang/Integer", "value", "I", true)
def tyJ24 : Nat → FieldType := fun k => match k with
  | _ => .int
abbrev wsJ240 : List Cond := u_ws RJ24 TJ24 1
theorem nmJ24 : ∀ a, a < 1 → ∀ b, b < 1 → a ≠ b → (TJ24 a).2.1 ≠ (TJ24 b).2.1 := by decide +kernel
theorem tyJ24_ok : ∀ k, k < 1 → parseFieldDescriptor (TJ24 k).2.2.1 = some (tyJ24 k) := by decide +kernel
abbrev cJ24_compare : ByteArray := prog_35_method_40_code
def yJ24_compare : MethodName := ⟨RJ24, "compare", "(II)I"⟩
def dkwJ24_compare_0 : List UInt8 := [26, 27, 162, 0, 7, 2, 167, 0, 13, 26, 27, 160, 0, 7, 3, 167, 0, 4, 4, 172]
abbrev dktJ24_compare_0 : List UInt8 := dkwJ24_compare_0 ++ []
theorem dksJ24_compare_0 : cJ24_compare.data.toList.drop 0 = dktJ24_compare_0 := by decide +kernel
theorem dJ24_compare_0 : decode cJ24_compare 0 = .ok (.iload_n 0, 1) := dk_26 (dk_at dksJ24_compare_0 0 rfl rfl)
theorem dJ24_compare_1 : decode cJ24_compare 1 = .ok (.iload_n 1, 1) := dk_27 (dk_at dksJ24_compare_0 1 rfl rfl)
theorem dJ24_compare_2 : decode cJ24_compare 2 = .ok (.if_icmp .ge 7, 3) := dk_162 0 7 (dk_at dksJ24_compare_0 2 rfl rfl)
theorem dJ24_compare_5 : decode cJ24_compare 5 = .ok (.iconst (-1), 1) := dk_2 (dk_at dksJ24_compare_0 5 rfl rfl)
theorem dJ24_compare_6 : decode cJ24_compare 6 = .ok (.goto 13, 3) := dk_167 0 13 (dk_at dksJ24_compare_0 6 rfl rfl)
theorem dJ24_compare_9 : decode cJ24_compare 9 = .ok (.iload_n 0, 1) := dk_26 (dk_at dksJ24_compare_0 9 rfl rfl)
theorem dJ24_compare_10 : decode cJ24_compare 10 = .ok (.iload_n 1, 1) := dk_27 (dk_at dksJ24_compare_0 10 rfl rfl)
theorem dJ24_compare_11 : decode cJ24_compare 11 = .ok (.if_icmp .ne 7, 3) := dk_160 0 7 (dk_at dksJ24_compare_0 11 rfl rfl)
theorem dJ24_compare_14 : decode cJ24_compare 14 = .ok (.iconst 0, 1) := dk_3 (dk_at dksJ24_compare_0 14 rfl rfl)
theorem dJ24_compare_15 : decode cJ24_compare 15 = .ok (.goto 4, 3) := dk_167 0 4 (dk_at dksJ24_compare_0 15 rfl rfl)
theorem dJ24_compare_18 : decode cJ24_compare 18 = .ok (.iconst 1, 1) := dk_4 (dk_at dksJ24_compare_0 18 rfl rfl)
theorem dJ24_compare_19 : decode cJ24_compare 19 = .ok (.ireturn, 1) := dk_172 (dk_at dksJ24_compare_0 19 rfl rfl)
abbrev cJ24_compareTo : ByteArray := prog_35_method_63_code
def yJ24_compareTo : MethodName := ⟨RJ24, "compareTo", "(Ljava/lang/Object;)I"⟩
def dkwJ24_compareTo_0 : List UInt8 := [42, 43, 192, 0, 1, 182, 1, 28, 172]
abbrev dktJ24_compareTo_0 : List UInt8 := dkwJ24_compareTo_0 ++ []
theorem dksJ24_compareTo_0 : cJ24_compareTo.data.toList.drop 0 = dktJ24_compareTo_0 := by decide +kernel
theorem dJ24_compareTo_0 : decode cJ24_compareTo 0 = .ok (.aload_n 0, 1) := dk_42 (dk_at dksJ24_compareTo_0 0 rfl rfl)
theorem dJ24_compareTo_1 : decode cJ24_compareTo 1 = .ok (.aload_n 1, 1) := dk_43 (dk_at dksJ24_compareTo_0 1 rfl rfl)
theorem dJ24_compareTo_2 : decode cJ24_compareTo 2 = .ok (.checkcast 1, 3) := dk_192 0 1 (dk_at dksJ24_compareTo_0 2 rfl rfl)
theorem dJ24_compareTo_5 : decode cJ24_compareTo 5 = .ok (.invokevirtual 284, 3) := dk_182 1 28 (dk_at dksJ24_compareTo_0 5 rfl rfl)
theorem dJ24_compareTo_8 : decode cJ24_compareTo 8 = .ok (.ireturn, 1) := dk_172 (dk_at dksJ24_compareTo_0 8 rfl rfl)
abbrev cJ24_compareTo_2 : ByteArray := prog_35_method_39_code
def yJ24_compareTo_2 : MethodName := ⟨RJ24, "compareTo", "(Ljava/lang/Integer;)I"⟩
def dkwJ24_compareTo_2_0 : List UInt8 := [42, 180, 0, 205, 43, 180, 0, 205, 184, 1, 3, 172]
abbrev dktJ24_compareTo_2_0 : List UInt8 := dkwJ24_compareTo_2_0 ++ []
theorem dksJ24_compareTo_2_0 : cJ24_compareTo_2.data.toList.drop 0 = dktJ24_compareTo_2_0 := by decide +kernel
theorem dJ24_compareTo_2_0 : decode cJ24_compareTo_2 0 = .ok (.aload_n 0, 1) := dk_42 (dk_at dksJ24_compareTo_2_0 0 rfl rfl)
theorem dJ24_compareTo_2_1 : decode cJ24_compareTo_2 1 = .ok (.getfield 205, 3) := dk_180 0 205 (dk_at dksJ24_compareTo_2_0 1 rfl rfl)
theorem dJ24_compareTo_2_4 : decode cJ24_compareTo_2 4 = .ok (.aload_n 1, 1) := dk_43 (dk_at dksJ24_compareTo_2_0 4 rfl rfl)
theorem dJ24_compareTo_2_5 : decode cJ24_compareTo_2 5 = .ok (.getfield 205, 3) := dk_180 0 205 (dk_at dksJ24_compareTo_2_0 5 rfl rfl)
theorem dJ24_compareTo_2_8 : decode cJ24_compareTo_2 8 = .ok (.invokestatic 259, 3) := dk_184 1 3 (dk_at dksJ24_compareTo_2_0 8 rfl rfl)
theorem dJ24_compareTo_2_11 : decode cJ24_compareTo_2 11 = .ok (.ireturn, 1) := dk_172 (dk_at dksJ24_compareTo_2_0 11 rfl rfl)
abbrev cJ24_intValue : ByteArray := prog_35_method_27_code
def yJ24_intValue : MethodName := ⟨RJ24, "intValue", "()I"⟩
theorem dJ24_intValue_0 : decode cJ24_intValue 0 = .ok (.aload_n 0, 1) := by decide +kernel
theorem dJ24_intValue_1 : decode cJ24_intValue 1 = .ok (.getfield 205, 3) := by decide +kernel
theorem dJ24_intValue_4 : decode cJ24_intValue 4 = .ok (.ireturn, 1) := by decide +kernel
abbrev cJ24_valueOf : ByteArray := prog_35_method_22_code
def yJ24_valueOf : MethodName := ⟨RJ24, "valueOf", "(I)Ljava/lang/Integer;"⟩
def dkwJ24_valueOf_1 : List UInt8 := [187, 0, 1, 89, 26, 183, 0, 199, 176]
abbrev dktJ24_valueOf_1 : List UInt8 := dkwJ24_valueOf_1 ++ []
def dkwJ24_valueOf_0 : List UInt8 := [26, 16, 128, 161, 0, 20, 26, 178, 0, 191, 163, 0, 13, 178, 0, 195, 26, 17, 0, 128, 96, 50, 176]
abbrev dktJ24_valueOf_0 : List UInt8 := dkwJ24_valueOf_0 ++ dktJ24_valueOf_1
theorem dksJ24_valueOf_0 : cJ24_valueOf.data.toList.drop 0 = dktJ24_valueOf_0 := by decide +kernel
theorem dksJ24_valueOf_1 : cJ24_valueOf.data.toList.drop 23 = dktJ24_valueOf_1 := dk_seg dksJ24_valueOf_0 23 rfl rfl
theorem dJ24_valueOf_0 : decode cJ24_valueOf 0 = .ok (.iload_n 0, 1) := dk_26 (dk_at dksJ24_valueOf_0 0 rfl rfl)
theorem dJ24_valueOf_1 : decode cJ24_valueOf 1 = .ok (.bipush (-128), 2) := dk_16 128 (dk_at dksJ24_valueOf_0 1 rfl rfl)
theorem dJ24_valueOf_3 : decode cJ24_valueOf 3 = .ok (.if_icmp .lt 20, 3) := dk_161 0 20 (dk_at dksJ24_valueOf_0 3 rfl rfl)
theorem dJ24_valueOf_6 : decode cJ24_valueOf 6 = .ok (.iload_n 0, 1) := dk_26 (dk_at dksJ24_valueOf_0 6 rfl rfl)
theorem dJ24_valueOf_7 : decode cJ24_valueOf 7 = .ok (.getstatic 191, 3) := dk_178 0 191 (dk_at dksJ24_valueOf_0 7 rfl rfl)
theorem dJ24_valueOf_10 : decode cJ24_valueOf 10 = .ok (.if_icmp .gt 13, 3) := dk_163 0 13 (dk_at dksJ24_valueOf_0 10 rfl rfl)
theorem dJ24_valueOf_13 : decode cJ24_valueOf 13 = .ok (.getstatic 195, 3) := dk_178 0 195 (dk_at dksJ24_valueOf_0 13 rfl rfl)
theorem dJ24_valueOf_16 : decode cJ24_valueOf 16 = .ok (.iload_n 0, 1) := dk_26 (dk_at dksJ24_valueOf_0 16 rfl rfl)
theorem dJ24_valueOf_17 : decode cJ24_valueOf 17 = .ok (.sipush 128, 3) := dk_17 0 128 (dk_at dksJ24_valueOf_0 17 rfl rfl)
theorem dJ24_valueOf_20 : decode cJ24_valueOf 20 = .ok (.iadd, 1) := dk_96 (dk_at dksJ24_valueOf_0 20 rfl rfl)
theorem dJ24_valueOf_21 : decode cJ24_valueOf 21 = .ok (.aaload, 1) := dk_50 (dk_at dksJ24_valueOf_0 21 rfl rfl)
theorem dJ24_valueOf_22 : decode cJ24_valueOf 22 = .ok (.areturn, 1) := dk_176 (dk_at dksJ24_valueOf_0 22 rfl rfl)
theorem dJ24_valueOf_23 : decode cJ24_valueOf 23 = .ok (.new 1, 3) := dk_187 0 1 (dk_at dksJ24_valueOf_1 0 rfl rfl)
theorem dJ24_valueOf_26 : decode cJ24_valueOf 26 = .ok (.dup, 1) := dk_89 (dk_at dksJ24_valueOf_1 3 rfl rfl)
theorem dJ24_valueOf_27 : decode cJ24_valueOf 27 = .ok (.iload_n 0, 1) := dk_26 (dk_at dksJ24_valueOf_1 4 rfl rfl)
theorem dJ24_valueOf_28 : decode cJ24_valueOf 28 = .ok (.invokespecial 199, 3) := dk_183 0 199 (dk_at dksJ24_valueOf_1 5 rfl rfl)
theorem dJ24_valueOf_31 : decode cJ24_valueOf 31 = .ok (.areturn, 1) := dk_176 (dk_at dksJ24_valueOf_1 8 rfl rfl)
abbrev cJ24_init : ByteArray := prog_35_method_23_code
def yJ24_init : MethodName := ⟨RJ24, "<init>", "(I)V"⟩
def dkwJ24_init_0 : List UInt8 := [42, 183, 0, 202, 42, 27, 181, 0, 205, 177]
abbrev dktJ24_init_0 : List UInt8 := dkwJ24_init_0 ++ []
theorem dksJ24_init_0 : cJ24_init.data.toList.drop 0 = dktJ24_init_0 := by decide +kernel
theorem dJ24_init_0 : decode cJ24_init 0 = .ok (.aload_n 0, 1) := dk_42 (dk_at dksJ24_init_0 0 rfl rfl)
theorem dJ24_init_1 : decode cJ24_init 1 = .ok (.invokespecial 202, 3) := dk_183 0 202 (dk_at dksJ24_init_0 1 rfl rfl)
theorem dJ24_init_4 : decode cJ24_init 4 = .ok (.aload_n 0, 1) := dk_42 (dk_at dksJ24_init_0 4 rfl rfl)
theorem dJ24_init_5 : decode cJ24_init 5 = .ok (.iload_n 1, 1) := dk_27 (dk_at dksJ24_init_0 5 rfl rfl)
theorem dJ24_init_6 : decode cJ24_init 6 = .ok (.putfield 205, 3) := dk_181 0 205 (dk_at dksJ24_init_0 6 rfl rfl)
theorem dJ24_init_9 : decode cJ24_init 9 = .ok (.return_, 1) := dk_177 (dk_at dksJ24_init_0 9 rfl rfl)
theorem q87 : (Jvm.Cond.initialized "java/lang/Integer") ∈ lw_all := lw_g (lw_at lw_m1 48 rfl) rfl
theorem q583 : (Jvm.Cond.selects "java/lang/Integer" ({ cls := "java/lang/Object", name := "getClass", desc := "()Ljava/lang/Class;" } : Jvm.MethodName) ({ cls := "java/lang/Object", name := "getClass", desc := "()Ljava/lang/Class;" } : Jvm.MethodName)) ∈ lw_all := lw_g (lw_at lw_m3 64 rfl) rfl
theorem q1194 : (Jvm.Cond.static ({ cls := "java/lang/Integer", name := "compare", desc := "(II)I" } : Jvm.MethodName)) ∈ lw_all := lw_g (lw_at lw_m5 195 rfl) rfl
theorem q1195 : (Jvm.Cond.code ({ cls := "java/lang/Integer", name := "compare", desc := "(II)I" } : Jvm.MethodName) prog_35_method_40_code (2 : Nat) (Option.some Jvm.ClassFile.FieldType.int)) ∈ lw_all := lw_g (lw_at lw_m5 196 rfl) rfl
theorem q1243 : (Jvm.Cond.castable "java/lang/Integer" "java/lang/Comparable") ∈ lw_tbl := lw_at lw_m6 4 rfl
theorem q1244 : (Jvm.Cond.selects "java/lang/Integer" ({ cls := "java/lang/Comparable", name := "compareTo", desc := "(Ljava/lang/Object;)I" } : Jvm.MethodName) ({ cls := "java/lang/Integer", name := "compareTo", desc := "(Ljava/lang/Object;)I" } : Jvm.MethodName)) ∈ lw_all := lw_g (lw_at lw_m6 5 rfl) rfl
theorem q1245 : (Jvm.Cond.unhidden "java/lang/Integer" "compareTo" "(Ljava/lang/Object;)I") ∈ lw_tbl := lw_at lw_m6 6 rfl
theorem q1246 : (Jvm.Cond.instanceMethod ({ cls := "java/lang/Integer", name := "compareTo", desc := "(Ljava/lang/Object;)I" } : Jvm.MethodName)) ∈ lw_all := lw_g (lw_at lw_m6 7 rfl) rfl
theorem q1247 : (Jvm.Cond.publicMethod ({ cls := "java/lang/Integer", name := "compareTo", desc := "(Ljava/lang/Object;)I" } : Jvm.MethodName)) ∈ lw_tbl := lw_at lw_m6 8 rfl
theorem q1248 : (Jvm.Cond.code ({ cls := "java/lang/Integer", name := "compareTo", desc := "(Ljava/lang/Object;)I" } : Jvm.MethodName) prog_35_method_63_code (2 : Nat) (Option.some Jvm.ClassFile.FieldType.int)) ∈ lw_all := lw_g (lw_at lw_m6 9 rfl) rfl
theorem q1249 : (Jvm.Cond.classLink "java/lang/Integer" (1 : Nat) "java/lang/Integer") ∈ lw_all := lw_g (lw_at lw_m6 10 rfl) rfl
theorem q1250 : (Jvm.Cond.methodLink "java/lang/Integer" (284 : Nat) ({ cls := "java/lang/Integer", name := "compareTo", desc := "(Ljava/lang/Integer;)I" } : Jvm.MethodName)) ∈ lw_all := lw_g (lw_at lw_m6 11 rfl) rfl
theorem q1251 : (Jvm.Cond.instanceMethod ({ cls := "java/lang/Integer", name := "compareTo", desc := "(Ljava/lang/Integer;)I" } : Jvm.MethodName)) ∈ lw_all := lw_g (lw_at lw_m6 12 rfl) rfl
theorem q1252 : (Jvm.Cond.selects "java/lang/Integer" ({ cls := "java/lang/Integer", name := "compareTo", desc := "(Ljava/lang/Integer;)I" } : Jvm.MethodName) ({ cls := "java/lang/Integer", name := "compareTo", desc := "(Ljava/lang/Integer;)I" } : Jvm.MethodName)) ∈ lw_all := lw_g (lw_at lw_m6 13 rfl) rfl
theorem q1253 : (Jvm.Cond.code ({ cls := "java/lang/Integer", name := "compareTo", desc := "(Ljava/lang/Integer;)I" } : Jvm.MethodName) prog_35_method_39_code (2 : Nat) (Option.some Jvm.ClassFile.FieldType.int)) ∈ lw_all := lw_g (lw_at lw_m6 14 rfl) rfl
theorem q1254 : (Jvm.Cond.methodLink "java/lang/Integer" (259 : Nat) ({ cls := "java/lang/Integer", name := "compare", desc := "(II)I" } : Jvm.MethodName)) ∈ lw_all := lw_g (lw_at lw_m6 15 rfl) rfl
theorem q1711 : (Jvm.Cond.instanceMethod ({ cls := "java/lang/Integer", name := "intValue", desc := "()I" } : Jvm.MethodName)) ∈ lw_all := lw_g (lw_at lw_m7 232 rfl) rfl
theorem q1712 : (Jvm.Cond.selects "java/lang/Integer" ({ cls := "java/lang/Integer", name := "intValue", desc := "()I" } : Jvm.MethodName) ({ cls := "java/lang/Integer", name := "intValue", desc := "()I" } : Jvm.MethodName)) ∈ lw_all := lw_g (lw_at lw_m7 233 rfl) rfl
theorem q1713 : (Jvm.Cond.code ({ cls := "java/lang/Integer", name := "intValue", desc := "()I" } : Jvm.MethodName) prog_35_method_27_code (1 : Nat) (Option.some Jvm.ClassFile.FieldType.int)) ∈ lw_all := lw_g (lw_at lw_m7 234 rfl) rfl
theorem q1835 : (Jvm.Cond.static ({ cls := "java/lang/Integer", name := "valueOf", desc := "(I)Ljava/lang/Integer;" } : Jvm.MethodName)) ∈ lw_all := lw_g (lw_at lw_m8 116 rfl) rfl
theorem q1836 : (Jvm.Cond.code ({ cls := "java/lang/Integer", name := "valueOf", desc := "(I)Ljava/lang/Integer;" } : Jvm.MethodName) prog_35_method_22_code (1 : Nat) (Option.some (Jvm.ClassFile.FieldType.object "java/lang/Integer"))) ∈ lw_all := lw_g (lw_at lw_m8 117 rfl) rfl
theorem q1837 : (Jvm.Cond.fieldLink "java/lang/Integer" (191 : Nat) "java/lang/Integer$IntegerCache" "high" "I") ∈ lw_all := lw_g (lw_at lw_m8 118 rfl) rfl
theorem q1839 : (Jvm.Cond.fieldLink "java/lang/Integer" (195 : Nat) "java/lang/Integer$IntegerCache" "cache" "[Ljava/lang/Integer;") ∈ lw_all := lw_g (lw_at lw_m8 120 rfl) rfl
theorem q1841 : (Jvm.Cond.instantiable "java/lang/Integer" (1 : Nat)) ∈ lw_all := lw_g (lw_at lw_m8 122 rfl) rfl
theorem q1842 : (Jvm.Cond.methodLink "java/lang/Integer" (199 : Nat) ({ cls := "java/lang/Integer", name := "<init>", desc := "(I)V" } : Jvm.MethodName)) ∈ lw_all := lw_g (lw_at lw_m8 123 rfl) rfl
theorem q1843 : (Jvm.Cond.instanceMethod ({ cls := "java/lang/Integer", name := "<init>", desc := "(I)V" } : Jvm.MethodName)) ∈ lw_all := lw_g (lw_at lw_m8 124 rfl) rfl
theorem q1844 : (Jvm.Cond.code ({ cls := "java/lang/Integer", name := "<init>", desc := "(I)V" } : Jvm.MethodName) prog_35_method_23_code (2 : Nat) (Option.none : Option Jvm.ClassFile.FieldType)) ∈ lw_all := lw_g (lw_at lw_m8 125 rfl) rfl
theorem q1845 : (Jvm.Cond.methodLink "java/lang/Integer" (202 : Nat) ({ cls := "java/lang/Number", name := "<init>", desc := "()V" } : Jvm.MethodName)) ∈ lw_all := lw_g (lw_at lw_m8 126 rfl) rfl
theorem q1849 : (Jvm.Cond.fieldLink "java/lang/Integer" (205 : Nat) "java/lang/Integer" "value" "I") ∈ lw_all := lw_g (lw_at lw_m8 130 rfl) rfl
theorem q1850 : (Jvm.Cond.laysFinal "java/lang/Integer" "java/lang/Integer" "value" "I") ∈ lw_all := lw_g (lw_at lw_m8 131 rfl) rfl
theorem q1851 : (Jvm.Cond.soleField "java/lang/Integer" "value") ∈ lw_all := lw_g (lw_at lw_m8 132 rfl) rfl
theorem q1852 : (Jvm.Cond.superclass "java/lang/Integer" "java/lang/Number") ∈ lw_all := lw_g (lw_at lw_m8 133 rfl) rfl
theorem q2012 : (Jvm.Cond.castable "java/lang/Integer" "java/lang/Object") ∈ lw_tbl := lw_at lw_m9 53 rfl
theorem in_J24 : ∀ w ∈ wsJ240, w ∈ lw_all := lw_in wsJ240 [1850] (by decide +kernel) (by decide +kernel)

/-! java/lang/ArithmeticException -/
set_option maxRecDepth 100000
def RJ25 : String := "java/lang/ArithmeticException"
def TJ25 : u_T := fun k => match k with
  | 0 => ("java/lang/Throwable", "backtrace", "Ljava/lang/Object;", false)
  | 1 => ("java/lang/Throwable", "detailMessage", "Ljava/lang/String;", false)
  | 2 => ("java/lang/Throwable", "cause", "Ljava/lang/Throwable;", false)
  | 3 => ("java/lang/Throwable", "stackTrace", "[Ljava/lang/StackTraceElement;", false)
  | 4 => ("java/lang/Throwable", "depth", "I", false)
  | _ => ("java/lang/Throwable", "suppressedExceptions", "Ljava/util/List;", false)
def tyJ25 : Nat → FieldType := fun k => match k with
  | 0 => .object "java/lang/Object"
  | 1 => .object "java/lang/String"
  | 2 => .object "java/lang/Throwable"
  | 3 => .array (.object "java/lang/StackTraceElement")
  | 4 => .int
  | _ => .object "java/util/List"
abbrev wsJ250 : List Cond := u_ws RJ25 TJ25 6
theorem nmJ25 : ∀ a, a < 6 → ∀ b, b < 6 → a ≠ b → (TJ25 a).2.1 ≠ (TJ25 b).2.1 := by decide +kernel
theorem tyJ25_ok : ∀ k, k < 6 → parseFieldDescriptor (TJ25 k).2.2.1 = some (tyJ25 k) := by decide +kernel
abbrev cJ25_init : ByteArray := prog_25_method_2_code
def yJ25_init : MethodName := ⟨RJ25, "<init>", "(Ljava/lang/String;)V"⟩
def dkwJ25_init_0 : List UInt8 := [42, 43, 183, 0, 7, 177]
abbrev dktJ25_init_0 : List UInt8 := dkwJ25_init_0 ++ []
theorem dksJ25_init_0 : cJ25_init.data.toList.drop 0 = dktJ25_init_0 := by decide +kernel
theorem dJ25_init_0 : decode cJ25_init 0 = .ok (.aload_n 0, 1) := dk_42 (dk_at dksJ25_init_0 0 rfl rfl)
theorem dJ25_init_1 : decode cJ25_init 1 = .ok (.aload_n 1, 1) := dk_43 (dk_at dksJ25_init_0 1 rfl rfl)
theorem dJ25_init_2 : decode cJ25_init 2 = .ok (.invokespecial 7, 3) := dk_183 0 7 (dk_at dksJ25_init_0 2 rfl rfl)
theorem dJ25_init_5 : decode cJ25_init 5 = .ok (.return_, 1) := dk_177 (dk_at dksJ25_init_0 5 rfl rfl)
abbrev cJ25_init_2 : ByteArray := prog_25_method_1_code
def yJ25_init_2 : MethodName := ⟨RJ25, "<init>", "()V"⟩
theorem dJ25_init_2_0 : decode cJ25_init_2 0 = .ok (.aload_n 0, 1) := by decide +kernel
theorem dJ25_init_2_1 : decode cJ25_init_2 1 = .ok (.invokespecial 1, 3) := by decide +kernel
theorem dJ25_init_2_4 : decode cJ25_init_2 4 = .ok (.return_, 1) := by decide +kernel
theorem q89 : (Jvm.Cond.initialized "java/lang/ArithmeticException") ∈ lw_all := lw_g (lw_at lw_m1 50 rfl) rfl
theorem q269 : (Jvm.Cond.selects "java/lang/ArithmeticException" ({ cls := "java/lang/Throwable", name := "fillInStackTrace", desc := "()Ljava/lang/Throwable;" } : Jvm.MethodName) ({ cls := "java/lang/Throwable", name := "fillInStackTrace", desc := "()Ljava/lang/Throwable;" } : Jvm.MethodName)) ∈ lw_all := lw_g (lw_at lw_m1 230 rfl) rfl
theorem q577 : (Jvm.Cond.selects "java/lang/ArithmeticException" ({ cls := "java/lang/Object", name := "getClass", desc := "()Ljava/lang/Class;" } : Jvm.MethodName) ({ cls := "java/lang/Object", name := "getClass", desc := "()Ljava/lang/Class;" } : Jvm.MethodName)) ∈ lw_all := lw_g (lw_at lw_m3 58 rfl) rfl
theorem q1424 : (Jvm.Cond.instantiable "java/lang/ArithmeticException" (6 : Nat)) ∈ lw_all := lw_g (lw_at lw_m6 185 rfl) rfl
theorem q1425 : (Jvm.Cond.instanceMethod ({ cls := "java/lang/ArithmeticException", name := "<init>", desc := "(Ljava/lang/String;)V" } : Jvm.MethodName)) ∈ lw_all := lw_g (lw_at lw_m6 186 rfl) rfl
theorem q1426 : (Jvm.Cond.code ({ cls := "java/lang/ArithmeticException", name := "<init>", desc := "(Ljava/lang/String;)V" } : Jvm.MethodName) prog_25_method_2_code (2 : Nat) (Option.none : Option Jvm.ClassFile.FieldType)) ∈ lw_all := lw_g (lw_at lw_m6 187 rfl) rfl
theorem q1427 : (Jvm.Cond.methodLink "java/lang/ArithmeticException" (7 : Nat) ({ cls := "java/lang/RuntimeException", name := "<init>", desc := "(Ljava/lang/String;)V" } : Jvm.MethodName)) ∈ lw_all := lw_g (lw_at lw_m6 188 rfl) rfl
theorem q1428 : (Jvm.Cond.lays "java/lang/ArithmeticException" "java/lang/Throwable" "backtrace" "Ljava/lang/Object;") ∈ lw_all := lw_g (lw_at lw_m6 189 rfl) rfl
theorem q1429 : (Jvm.Cond.lays "java/lang/ArithmeticException" "java/lang/Throwable" "detailMessage" "Ljava/lang/String;") ∈ lw_all := lw_g (lw_at lw_m6 190 rfl) rfl
theorem q1430 : (Jvm.Cond.lays "java/lang/ArithmeticException" "java/lang/Throwable" "cause" "Ljava/lang/Throwable;") ∈ lw_all := lw_g (lw_at lw_m6 191 rfl) rfl
theorem q1431 : (Jvm.Cond.lays "java/lang/ArithmeticException" "java/lang/Throwable" "stackTrace" "[Ljava/lang/StackTraceElement;") ∈ lw_all := lw_g (lw_at lw_m6 192 rfl) rfl
theorem q1432 : (Jvm.Cond.lays "java/lang/ArithmeticException" "java/lang/Throwable" "depth" "I") ∈ lw_all := lw_g (lw_at lw_m6 193 rfl) rfl
theorem q1433 : (Jvm.Cond.lays "java/lang/ArithmeticException" "java/lang/Throwable" "suppressedExceptions" "Ljava/util/List;") ∈ lw_all := lw_g (lw_at lw_m6 194 rfl) rfl
theorem q1434 : (Jvm.Cond.superclass "java/lang/ArithmeticException" "java/lang/RuntimeException") ∈ lw_all := lw_g (lw_at lw_m6 195 rfl) rfl
theorem q1435 : (Jvm.Cond.castable "java/lang/ArithmeticException" "java/lang/ArithmeticException") ∈ lw_tbl := lw_at lw_m6 196 rfl
theorem q1436 : (Jvm.Cond.selects "java/lang/ArithmeticException" ({ cls := "java/lang/Throwable", name := "fillInStackTrace", desc := "(I)Ljava/lang/Throwable;" } : Jvm.MethodName) ({ cls := "java/lang/Throwable", name := "fillInStackTrace", desc := "(I)Ljava/lang/Throwable;" } : Jvm.MethodName)) ∈ lw_all := lw_g (lw_at lw_m6 197 rfl) rfl
theorem q1443 : (Jvm.Cond.instanceMethod ({ cls := "java/lang/ArithmeticException", name := "<init>", desc := "()V" } : Jvm.MethodName)) ∈ lw_all := lw_g (lw_at lw_m6 204 rfl) rfl
theorem q1444 : (Jvm.Cond.code ({ cls := "java/lang/ArithmeticException", name := "<init>", desc := "()V" } : Jvm.MethodName) prog_25_method_1_code (1 : Nat) (Option.none : Option Jvm.ClassFile.FieldType)) ∈ lw_all := lw_g (lw_at lw_m6 205 rfl) rfl
theorem q1445 : (Jvm.Cond.methodLink "java/lang/ArithmeticException" (1 : Nat) ({ cls := "java/lang/RuntimeException", name := "<init>", desc := "()V" } : Jvm.MethodName)) ∈ lw_all := lw_g (lw_at lw_m6 206 rfl) rfl
theorem q2013 : (Jvm.Cond.castable "java/lang/ArithmeticException" "java/lang/Object") ∈ lw_tbl := lw_at lw_m9 54 rfl
theorem in_J25 : ∀ w ∈ wsJ250, w ∈ lw_all := lw_in wsJ250 [1428, 1429, 1430, 1431, 1432, 1433] (by decide +kernel) (by decide +kernel)

/-! java/lang/Object -/
set_option maxRecDepth 100000
def RJ26 : String := "java/lang/Object"
abbrev cJ26_init : ByteArray := object_method_1_code
def yJ26_init : MethodName := ⟨RJ26, "<init>", "()V"⟩
theorem dJ26_init_0 : decode cJ26_init 0 = .ok (.return_, 1) := by decide +kernel
theorem q96 : (Jvm.Cond.instanceMethod ({ cls := "java/lang/Object", name := "<init>", desc := "()V" } : Jvm.MethodName)) ∈ lw_all := lw_g (lw_at lw_m1 57 rfl) rfl
theorem q97 : (Jvm.Cond.code ({ cls := "java/lang/Object", name := "<init>", desc := "()V" } : Jvm.MethodName) object_method_1_code (1 : Nat) (Option.none : Option Jvm.ClassFile.FieldType)) ∈ lw_all := lw_g (lw_at lw_m1 58 rfl) rfl
theorem q555 : (Jvm.Cond.instanceMethod ({ cls := "java/lang/Object", name := "getClass", desc := "()Ljava/lang/Class;" } : Jvm.MethodName)) ∈ lw_all := lw_g (lw_at lw_m3 36 rfl) rfl
theorem q556 : (Jvm.Cond.sameMethod "java/lang/Object" "java/lang/Object" "getClass" "()Ljava/lang/Class;") ∈ lw_all := lw_g (lw_at lw_m3 37 rfl) rfl
theorem q589 : (Jvm.Cond.native ({ cls := "java/lang/Object", name := "getClass", desc := "()Ljava/lang/Class;" } : Jvm.MethodName)) ∈ lw_all := lw_g (lw_at lw_m3 70 rfl) rfl
theorem q1973 : (Jvm.Cond.initialized "java/lang/Object") ∈ lw_all := lw_g (lw_at lw_m9 14 rfl) rfl
theorem q2018 : (Jvm.Cond.declares ({ cls := "java/lang/Object", name := "getClass", desc := "()Ljava/lang/Class;" } : Jvm.MethodName)) ∈ lw_tbl := lw_at lw_m9 59 rfl

theorem q128 : (Jvm.Cond.arrayOver (Jvm.ClassFile.FieldType.object "Foundrymark$Supplier")) ∈ lw_tbl := lw_at lw_m1 89 rfl
set_option maxRecDepth 100000
theorem q342 : (Jvm.Cond.arrayClass Jvm.ClassFile.FieldType.boolean) ∈ lw_all := lw_g (lw_at lw_m2 63 rfl) rfl
theorem q398 : (Jvm.Cond.arrayClass Jvm.ClassFile.FieldType.int) ∈ lw_all := lw_g (lw_at lw_m2 119 rfl) rfl
theorem q465 : (Jvm.Cond.arrayOver (Jvm.ClassFile.FieldType.object "java/lang/Object")) ∈ lw_tbl := lw_at lw_m2 186 rfl
theorem q703 : (Jvm.Cond.arrayClass Jvm.ClassFile.FieldType.byte) ∈ lw_all := lw_g (lw_at lw_m3 184 rfl) rfl
theorem q1494 : (Jvm.Cond.arrayClass Jvm.ClassFile.FieldType.char) ∈ lw_all := lw_g (lw_at lw_m7 15 rfl) rfl
theorem q1970 : (Jvm.Cond.arrayClass Jvm.ClassFile.FieldType.long) ∈ lw_all := lw_g (lw_at lw_m9 11 rfl) rfl
theorem q1971 : (Jvm.Cond.arrayClass Jvm.ClassFile.FieldType.double) ∈ lw_all := lw_g (lw_at lw_m9 12 rfl) rfl

theorem q51 : (Jvm.Cond.initialized "java/lang/System") ∈ lw_all := lw_g (lw_at lw_m1 12 rfl) rfl
set_option maxRecDepth 100000
theorem q599 : (Jvm.Cond.static ({ cls := "java/lang/System", name := "arraycopy", desc := "(Ljava/lang/Object;ILjava/lang/Object;II)V" } : Jvm.MethodName)) ∈ lw_all := lw_g (lw_at lw_m3 80 rfl) rfl
theorem q600 : (Jvm.Cond.native ({ cls := "java/lang/System", name := "arraycopy", desc := "(Ljava/lang/Object;ILjava/lang/Object;II)V" } : Jvm.MethodName)) ∈ lw_all := lw_g (lw_at lw_m3 81 rfl) rfl

theorem q88 : (Jvm.Cond.initialized "java/lang/Integer$IntegerCache") ∈ lw_all := lw_g (lw_at lw_m1 49 rfl) rfl
set_option maxRecDepth 100000
theorem q1838 : (Jvm.Cond.laysStatic "java/lang/Integer$IntegerCache" "high" "I") ∈ lw_tbl := lw_at lw_m8 119 rfl
theorem q1840 : (Jvm.Cond.laysStatic "java/lang/Integer$IntegerCache" "cache" "[Ljava/lang/Integer;") ∈ lw_tbl := lw_at lw_m8 121 rfl

theorem q214 : (Jvm.Cond.interfaceMethod "java/util/Iterator" "java/util/Iterator" "hasNext" "()Z") ∈ lw_tbl := lw_at lw_m1 175 rfl
set_option maxRecDepth 100000
theorem q215 : (Jvm.Cond.declares ({ cls := "java/util/Iterator", name := "hasNext", desc := "()Z" } : Jvm.MethodName)) ∈ lw_tbl := lw_at lw_m1 176 rfl
theorem q224 : (Jvm.Cond.interfaceMethod "java/util/Iterator" "java/util/Iterator" "next" "()Ljava/lang/Object;") ∈ lw_tbl := lw_at lw_m1 185 rfl
theorem q225 : (Jvm.Cond.declares ({ cls := "java/util/Iterator", name := "next", desc := "()Ljava/lang/Object;" } : Jvm.MethodName)) ∈ lw_tbl := lw_at lw_m1 186 rfl

theorem q1172 : (Jvm.Cond.interfaceMethod "java/util/Comparator" "java/util/Comparator" "compare" "(Ljava/lang/Object;Ljava/lang/Object;)I") ∈ lw_tbl := lw_at lw_m5 173 rfl
set_option maxRecDepth 100000
theorem q1173 : (Jvm.Cond.declares ({ cls := "java/util/Comparator", name := "compare", desc := "(Ljava/lang/Object;Ljava/lang/Object;)I" } : Jvm.MethodName)) ∈ lw_tbl := lw_at lw_m5 174 rfl

theorem q1180 : (Jvm.Cond.interfaceMethod "java/lang/Comparable" "java/lang/Comparable" "compareTo" "(Ljava/lang/Object;)I") ∈ lw_tbl := lw_at lw_m5 181 rfl
set_option maxRecDepth 100000
theorem q1181 : (Jvm.Cond.declares ({ cls := "java/lang/Comparable", name := "compareTo", desc := "(Ljava/lang/Object;)I" } : Jvm.MethodName)) ∈ lw_tbl := lw_at lw_m5 182 rfl

theorem q1329 : (Jvm.Cond.interfaceMethod "java/util/Collection" "java/util/Collection" "toArray" "()[Ljava/lang/Object;") ∈ lw_tbl := lw_at lw_m6 90 rfl
set_option maxRecDepth 100000
theorem q1330 : (Jvm.Cond.declares ({ cls := "java/util/Collection", name := "toArray", desc := "()[Ljava/lang/Object;" } : Jvm.MethodName)) ∈ lw_tbl := lw_at lw_m6 91 rfl

theorem q2016 : (Jvm.Cond.sameMethod "[Ljava/lang/Object;" "java/lang/Object" "getClass" "()Ljava/lang/Class;") ∈ lw_all := lw_g (lw_at lw_m9 57 rfl) rfl
set_option maxRecDepth 100000
theorem q2017 : (Jvm.Cond.selects "[Ljava/lang/Object;" ({ cls := "java/lang/Object", name := "getClass", desc := "()Ljava/lang/Class;" } : Jvm.MethodName) ({ cls := "java/lang/Object", name := "getClass", desc := "()Ljava/lang/Class;" } : Jvm.MethodName)) ∈ lw_all := lw_g (lw_at lw_m9 58 rfl) rfl
theorem q2023 : (Jvm.Cond.castable "[Ljava/lang/Object;" "java/lang/Object") ∈ lw_tbl := lw_at lw_m9 64 rfl

theorem q2020 : (Jvm.Cond.castable "[LFoundrymark$Supplier;" "java/lang/Object") ∈ lw_tbl := lw_at lw_m9 61 rfl
set_option maxRecDepth 100000

theorem q2021 : (Jvm.Cond.castable "[Z" "java/lang/Object") ∈ lw_tbl := lw_at lw_m9 62 rfl
set_option maxRecDepth 100000

theorem q2022 : (Jvm.Cond.castable "[I" "java/lang/Object") ∈ lw_tbl := lw_at lw_m9 63 rfl
set_option maxRecDepth 100000

theorem q2024 : (Jvm.Cond.castable "[B" "java/lang/Object") ∈ lw_tbl := lw_at lw_m9 65 rfl
set_option maxRecDepth 100000

theorem q2025 : (Jvm.Cond.castable "[C" "java/lang/Object") ∈ lw_tbl := lw_at lw_m9 66 rfl
set_option maxRecDepth 100000

theorem q2026 : (Jvm.Cond.castable "[J" "java/lang/Object") ∈ lw_tbl := lw_at lw_m9 67 rfl
set_option maxRecDepth 100000

theorem q2027 : (Jvm.Cond.castable "[D" "java/lang/Object") ∈ lw_tbl := lw_at lw_m9 68 rfl
set_option maxRecDepth 100000
