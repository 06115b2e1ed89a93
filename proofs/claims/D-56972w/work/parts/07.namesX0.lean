/-! FoundrymarkLaw -/
set_option maxRecDepth 100000
def RX0 : String := "FoundrymarkLaw"
abbrev cX0_addMachine : ByteArray := method_3_code
def yX0_addMachine : MethodName := ⟨RX0, "addMachine", "(LFoundrymark;IIII[J)I"⟩
def dkwX0_addMachine_1 : List UInt8 := [172, 3, 172]
abbrev dktX0_addMachine_1 : List UInt8 := dkwX0_addMachine_1 ++ []
def dkwX0_addMachine_0 : List UInt8 := [25, 5, 3, 42, 27, 28, 29, 21, 4, 182, 0, 7, 133, 80, 167, 0, 11, 58, 6, 4, 172, 58, 6, 5]
abbrev dktX0_addMachine_0 : List UInt8 := dkwX0_addMachine_0 ++ dktX0_addMachine_1
theorem dksX0_addMachine_0 : cX0_addMachine.data.toList.drop 0 = dktX0_addMachine_0 := by decide +kernel
theorem dksX0_addMachine_1 : cX0_addMachine.data.toList.drop 24 = dktX0_addMachine_1 := dk_seg dksX0_addMachine_0 24 rfl rfl
theorem dX0_addMachine_0 : decode cX0_addMachine 0 = .ok (.aload 5, 2) := dk_25 5 (dk_at dksX0_addMachine_0 0 rfl rfl)
theorem dX0_addMachine_2 : decode cX0_addMachine 2 = .ok (.iconst 0, 1) := dk_3 (dk_at dksX0_addMachine_0 2 rfl rfl)
theorem dX0_addMachine_3 : decode cX0_addMachine 3 = .ok (.aload_n 0, 1) := dk_42 (dk_at dksX0_addMachine_0 3 rfl rfl)
theorem dX0_addMachine_4 : decode cX0_addMachine 4 = .ok (.iload_n 1, 1) := dk_27 (dk_at dksX0_addMachine_0 4 rfl rfl)
theorem dX0_addMachine_5 : decode cX0_addMachine 5 = .ok (.iload_n 2, 1) := dk_28 (dk_at dksX0_addMachine_0 5 rfl rfl)
theorem dX0_addMachine_6 : decode cX0_addMachine 6 = .ok (.iload_n 3, 1) := dk_29 (dk_at dksX0_addMachine_0 6 rfl rfl)
theorem dX0_addMachine_7 : decode cX0_addMachine 7 = .ok (.iload 4, 2) := dk_21 4 (dk_at dksX0_addMachine_0 7 rfl rfl)
theorem dX0_addMachine_9 : decode cX0_addMachine 9 = .ok (.invokevirtual 7, 3) := dk_182 0 7 (dk_at dksX0_addMachine_0 9 rfl rfl)
theorem dX0_addMachine_12 : decode cX0_addMachine 12 = .ok (.i2l, 1) := dk_133 (dk_at dksX0_addMachine_0 12 rfl rfl)
theorem dX0_addMachine_13 : decode cX0_addMachine 13 = .ok (.lastore, 1) := dk_80 (dk_at dksX0_addMachine_0 13 rfl rfl)
theorem dX0_addMachine_14 : decode cX0_addMachine 14 = .ok (.goto 11, 3) := dk_167 0 11 (dk_at dksX0_addMachine_0 14 rfl rfl)
theorem dX0_addMachine_17 : decode cX0_addMachine 17 = .ok (.astore 6, 2) := dk_58 6 (dk_at dksX0_addMachine_0 17 rfl rfl)
theorem dX0_addMachine_19 : decode cX0_addMachine 19 = .ok (.iconst 1, 1) := dk_4 (dk_at dksX0_addMachine_0 19 rfl rfl)
theorem dX0_addMachine_20 : decode cX0_addMachine 20 = .ok (.ireturn, 1) := dk_172 (dk_at dksX0_addMachine_0 20 rfl rfl)
theorem dX0_addMachine_21 : decode cX0_addMachine 21 = .ok (.astore 6, 2) := dk_58 6 (dk_at dksX0_addMachine_0 21 rfl rfl)
theorem dX0_addMachine_23 : decode cX0_addMachine 23 = .ok (.iconst 2, 1) := dk_5 (dk_at dksX0_addMachine_0 23 rfl rfl)
theorem dX0_addMachine_24 : decode cX0_addMachine 24 = .ok (.ireturn, 1) := dk_172 (dk_at dksX0_addMachine_1 0 rfl rfl)
theorem dX0_addMachine_25 : decode cX0_addMachine 25 = .ok (.iconst 0, 1) := dk_3 (dk_at dksX0_addMachine_1 1 rfl rfl)
theorem dX0_addMachine_26 : decode cX0_addMachine 26 = .ok (.ireturn, 1) := dk_172 (dk_at dksX0_addMachine_1 2 rfl rfl)
abbrev cX0_addPart : ByteArray := method_4_code
def yX0_addPart : MethodName := ⟨RX0, "addPart", "(LFoundrymark;ZI[J)I"⟩
def dkwX0_addPart_0 : List UInt8 := [45, 3, 42, 27, 28, 182, 0, 17, 133, 80, 167, 0, 11, 58, 4, 4, 172, 58, 4, 5, 172, 3, 172]
abbrev dktX0_addPart_0 : List UInt8 := dkwX0_addPart_0 ++ []
theorem dksX0_addPart_0 : cX0_addPart.data.toList.drop 0 = dktX0_addPart_0 := by decide +kernel
theorem dX0_addPart_0 : decode cX0_addPart 0 = .ok (.aload_n 3, 1) := dk_45 (dk_at dksX0_addPart_0 0 rfl rfl)
theorem dX0_addPart_1 : decode cX0_addPart 1 = .ok (.iconst 0, 1) := dk_3 (dk_at dksX0_addPart_0 1 rfl rfl)
theorem dX0_addPart_2 : decode cX0_addPart 2 = .ok (.aload_n 0, 1) := dk_42 (dk_at dksX0_addPart_0 2 rfl rfl)
theorem dX0_addPart_3 : decode cX0_addPart 3 = .ok (.iload_n 1, 1) := dk_27 (dk_at dksX0_addPart_0 3 rfl rfl)
theorem dX0_addPart_4 : decode cX0_addPart 4 = .ok (.iload_n 2, 1) := dk_28 (dk_at dksX0_addPart_0 4 rfl rfl)
theorem dX0_addPart_5 : decode cX0_addPart 5 = .ok (.invokevirtual 17, 3) := dk_182 0 17 (dk_at dksX0_addPart_0 5 rfl rfl)
theorem dX0_addPart_8 : decode cX0_addPart 8 = .ok (.i2l, 1) := dk_133 (dk_at dksX0_addPart_0 8 rfl rfl)
theorem dX0_addPart_9 : decode cX0_addPart 9 = .ok (.lastore, 1) := dk_80 (dk_at dksX0_addPart_0 9 rfl rfl)
theorem dX0_addPart_10 : decode cX0_addPart 10 = .ok (.goto 11, 3) := dk_167 0 11 (dk_at dksX0_addPart_0 10 rfl rfl)
theorem dX0_addPart_13 : decode cX0_addPart 13 = .ok (.astore 4, 2) := dk_58 4 (dk_at dksX0_addPart_0 13 rfl rfl)
theorem dX0_addPart_15 : decode cX0_addPart 15 = .ok (.iconst 1, 1) := dk_4 (dk_at dksX0_addPart_0 15 rfl rfl)
theorem dX0_addPart_16 : decode cX0_addPart 16 = .ok (.ireturn, 1) := dk_172 (dk_at dksX0_addPart_0 16 rfl rfl)
theorem dX0_addPart_17 : decode cX0_addPart 17 = .ok (.astore 4, 2) := dk_58 4 (dk_at dksX0_addPart_0 17 rfl rfl)
theorem dX0_addPart_19 : decode cX0_addPart 19 = .ok (.iconst 2, 1) := dk_5 (dk_at dksX0_addPart_0 19 rfl rfl)
theorem dX0_addPart_20 : decode cX0_addPart 20 = .ok (.ireturn, 1) := dk_172 (dk_at dksX0_addPart_0 20 rfl rfl)
theorem dX0_addPart_21 : decode cX0_addPart 21 = .ok (.iconst 0, 1) := dk_3 (dk_at dksX0_addPart_0 21 rfl rfl)
theorem dX0_addPart_22 : decode cX0_addPart 22 = .ok (.ireturn, 1) := dk_172 (dk_at dksX0_addPart_0 22 rfl rfl)
abbrev cX0_addComponent : ByteArray := method_5_code
def yX0_addComponent : MethodName := ⟨RX0, "addComponent", "(LFoundrymark;IIII[J)I"⟩
def dkwX0_addComponent_1 : List UInt8 := [172, 58, 6, 6, 172, 58, 6, 7, 172, 3, 172]
abbrev dktX0_addComponent_1 : List UInt8 := dkwX0_addComponent_1 ++ []
def dkwX0_addComponent_0 : List UInt8 := [25, 5, 3, 42, 27, 28, 29, 21, 4, 182, 0, 21, 133, 80, 167, 0, 19, 58, 6, 4, 172, 58, 6, 5]
abbrev dktX0_addComponent_0 : List UInt8 := dkwX0_addComponent_0 ++ dktX0_addComponent_1
theorem dksX0_addComponent_0 : cX0_addComponent.data.toList.drop 0 = dktX0_addComponent_0 := by decide +kernel
theorem dksX0_addComponent_1 : cX0_addComponent.data.toList.drop 24 = dktX0_addComponent_1 := dk_seg dksX0_addComponent_0 24 rfl rfl
theorem dX0_addComponent_0 : decode cX0_addComponent 0 = .ok (.aload 5, 2) := dk_25 5 (dk_at dksX0_addComponent_0 0 rfl rfl)
theorem dX0_addComponent_2 : decode cX0_addComponent 2 = .ok (.iconst 0, 1) := dk_3 (dk_at dksX0_addComponent_0 2 rfl rfl)
theorem dX0_addComponent_3 : decode cX0_addComponent 3 = .ok (.aload_n 0, 1) := dk_42 (dk_at dksX0_addComponent_0 3 rfl rfl)
theorem dX0_addComponent_4 : decode cX0_addComponent 4 = .ok (.iload_n 1, 1) := dk_27 (dk_at dksX0_addComponent_0 4 rfl rfl)
theorem dX0_addComponent_5 : decode cX0_addComponent 5 = .ok (.iload_n 2, 1) := dk_28 (dk_at dksX0_addComponent_0 5 rfl rfl)
theorem dX0_addComponent_6 : decode cX0_addComponent 6 = .ok (.iload_n 3, 1) := dk_29 (dk_at dksX0_addComponent_0 6 rfl rfl)
theorem dX0_addComponent_7 : decode cX0_addComponent 7 = .ok (.iload 4, 2) := dk_21 4 (dk_at dksX0_addComponent_0 7 rfl rfl)
theorem dX0_addComponent_9 : decode cX0_addComponent 9 = .ok (.invokevirtual 21, 3) := dk_182 0 21 (dk_at dksX0_addComponent_0 9 rfl rfl)
theorem dX0_addComponent_12 : decode cX0_addComponent 12 = .ok (.i2l, 1) := dk_133 (dk_at dksX0_addComponent_0 12 rfl rfl)
theorem dX0_addComponent_13 : decode cX0_addComponent 13 = .ok (.lastore, 1) := dk_80 (dk_at dksX0_addComponent_0 13 rfl rfl)
theorem dX0_addComponent_14 : decode cX0_addComponent 14 = .ok (.goto 19, 3) := dk_167 0 19 (dk_at dksX0_addComponent_0 14 rfl rfl)
theorem dX0_addComponent_17 : decode cX0_addComponent 17 = .ok (.astore 6, 2) := dk_58 6 (dk_at dksX0_addComponent_0 17 rfl rfl)
theorem dX0_addComponent_19 : decode cX0_addComponent 19 = .ok (.iconst 1, 1) := dk_4 (dk_at dksX0_addComponent_0 19 rfl rfl)
theorem dX0_addComponent_20 : decode cX0_addComponent 20 = .ok (.ireturn, 1) := dk_172 (dk_at dksX0_addComponent_0 20 rfl rfl)
theorem dX0_addComponent_21 : decode cX0_addComponent 21 = .ok (.astore 6, 2) := dk_58 6 (dk_at dksX0_addComponent_0 21 rfl rfl)
theorem dX0_addComponent_23 : decode cX0_addComponent 23 = .ok (.iconst 2, 1) := dk_5 (dk_at dksX0_addComponent_0 23 rfl rfl)
theorem dX0_addComponent_24 : decode cX0_addComponent 24 = .ok (.ireturn, 1) := dk_172 (dk_at dksX0_addComponent_1 0 rfl rfl)
theorem dX0_addComponent_25 : decode cX0_addComponent 25 = .ok (.astore 6, 2) := dk_58 6 (dk_at dksX0_addComponent_1 1 rfl rfl)
theorem dX0_addComponent_27 : decode cX0_addComponent 27 = .ok (.iconst 3, 1) := dk_6 (dk_at dksX0_addComponent_1 3 rfl rfl)
theorem dX0_addComponent_28 : decode cX0_addComponent 28 = .ok (.ireturn, 1) := dk_172 (dk_at dksX0_addComponent_1 4 rfl rfl)
theorem dX0_addComponent_29 : decode cX0_addComponent 29 = .ok (.astore 6, 2) := dk_58 6 (dk_at dksX0_addComponent_1 5 rfl rfl)
theorem dX0_addComponent_31 : decode cX0_addComponent 31 = .ok (.iconst 4, 1) := dk_7 (dk_at dksX0_addComponent_1 7 rfl rfl)
theorem dX0_addComponent_32 : decode cX0_addComponent 32 = .ok (.ireturn, 1) := dk_172 (dk_at dksX0_addComponent_1 8 rfl rfl)
theorem dX0_addComponent_33 : decode cX0_addComponent 33 = .ok (.iconst 0, 1) := dk_3 (dk_at dksX0_addComponent_1 9 rfl rfl)
theorem dX0_addComponent_34 : decode cX0_addComponent 34 = .ok (.ireturn, 1) := dk_172 (dk_at dksX0_addComponent_1 10 rfl rfl)
abbrev cX0_addOperation : ByteArray := method_6_code
def yX0_addOperation : MethodName := ⟨RX0, "addOperation", "(LFoundrymark;IIII[J)I"⟩
def dkwX0_addOperation_1 : List UInt8 := [172, 58, 6, 6, 172, 58, 6, 7, 172, 3, 172]
abbrev dktX0_addOperation_1 : List UInt8 := dkwX0_addOperation_1 ++ []
def dkwX0_addOperation_0 : List UInt8 := [25, 5, 3, 42, 27, 28, 29, 21, 4, 182, 0, 28, 133, 80, 167, 0, 19, 58, 6, 4, 172, 58, 6, 5]
abbrev dktX0_addOperation_0 : List UInt8 := dkwX0_addOperation_0 ++ dktX0_addOperation_1
theorem dksX0_addOperation_0 : cX0_addOperation.data.toList.drop 0 = dktX0_addOperation_0 := by decide +kernel
theorem dksX0_addOperation_1 : cX0_addOperation.data.toList.drop 24 = dktX0_addOperation_1 := dk_seg dksX0_addOperation_0 24 rfl rfl
theorem dX0_addOperation_0 : decode cX0_addOperation 0 = .ok (.aload 5, 2) := dk_25 5 (dk_at dksX0_addOperation_0 0 rfl rfl)
theorem dX0_addOperation_2 : decode cX0_addOperation 2 = .ok (.iconst 0, 1) := dk_3 (dk_at dksX0_addOperation_0 2 rfl rfl)
theorem dX0_addOperation_3 : decode cX0_addOperation 3 = .ok (.aload_n 0, 1) := dk_42 (dk_at dksX0_addOperation_0 3 rfl rfl)
theorem dX0_addOperation_4 : decode cX0_addOperation 4 = .ok (.iload_n 1, 1) := dk_27 (dk_at dksX0_addOperation_0 4 rfl rfl)
theorem dX0_addOperation_5 : decode cX0_addOperation 5 = .ok (.iload_n 2, 1) := dk_28 (dk_at dksX0_addOperation_0 5 rfl rfl)
theorem dX0_addOperation_6 : decode cX0_addOperation 6 = .ok (.iload_n 3, 1) := dk_29 (dk_at dksX0_addOperation_0 6 rfl rfl)
theorem dX0_addOperation_7 : decode cX0_addOperation 7 = .ok (.iload 4, 2) := dk_21 4 (dk_at dksX0_addOperation_0 7 rfl rfl)
theorem dX0_addOperation_9 : decode cX0_addOperation 9 = .ok (.invokevirtual 28, 3) := dk_182 0 28 (dk_at dksX0_addOperation_0 9 rfl rfl)
theorem dX0_addOperation_12 : decode cX0_addOperation 12 = .ok (.i2l, 1) := dk_133 (dk_at dksX0_addOperation_0 12 rfl rfl)
theorem dX0_addOperation_13 : decode cX0_addOperation 13 = .ok (.lastore, 1) := dk_80 (dk_at dksX0_addOperation_0 13 rfl rfl)
theorem dX0_addOperation_14 : decode cX0_addOperation 14 = .ok (.goto 19, 3) := dk_167 0 19 (dk_at dksX0_addOperation_0 14 rfl rfl)
theorem dX0_addOperation_17 : decode cX0_addOperation 17 = .ok (.astore 6, 2) := dk_58 6 (dk_at dksX0_addOperation_0 17 rfl rfl)
theorem dX0_addOperation_19 : decode cX0_addOperation 19 = .ok (.iconst 1, 1) := dk_4 (dk_at dksX0_addOperation_0 19 rfl rfl)
theorem dX0_addOperation_20 : decode cX0_addOperation 20 = .ok (.ireturn, 1) := dk_172 (dk_at dksX0_addOperation_0 20 rfl rfl)
theorem dX0_addOperation_21 : decode cX0_addOperation 21 = .ok (.astore 6, 2) := dk_58 6 (dk_at dksX0_addOperation_0 21 rfl rfl)
theorem dX0_addOperation_23 : decode cX0_addOperation 23 = .ok (.iconst 2, 1) := dk_5 (dk_at dksX0_addOperation_0 23 rfl rfl)
theorem dX0_addOperation_24 : decode cX0_addOperation 24 = .ok (.ireturn, 1) := dk_172 (dk_at dksX0_addOperation_1 0 rfl rfl)
theorem dX0_addOperation_25 : decode cX0_addOperation 25 = .ok (.astore 6, 2) := dk_58 6 (dk_at dksX0_addOperation_1 1 rfl rfl)
theorem dX0_addOperation_27 : decode cX0_addOperation 27 = .ok (.iconst 3, 1) := dk_6 (dk_at dksX0_addOperation_1 3 rfl rfl)
theorem dX0_addOperation_28 : decode cX0_addOperation 28 = .ok (.ireturn, 1) := dk_172 (dk_at dksX0_addOperation_1 4 rfl rfl)
theorem dX0_addOperation_29 : decode cX0_addOperation 29 = .ok (.astore 6, 2) := dk_58 6 (dk_at dksX0_addOperation_1 5 rfl rfl)
theorem dX0_addOperation_31 : decode cX0_addOperation 31 = .ok (.iconst 4, 1) := dk_7 (dk_at dksX0_addOperation_1 7 rfl rfl)
theorem dX0_addOperation_32 : decode cX0_addOperation 32 = .ok (.ireturn, 1) := dk_172 (dk_at dksX0_addOperation_1 8 rfl rfl)
theorem dX0_addOperation_33 : decode cX0_addOperation 33 = .ok (.iconst 0, 1) := dk_3 (dk_at dksX0_addOperation_1 9 rfl rfl)
theorem dX0_addOperation_34 : decode cX0_addOperation 34 = .ok (.ireturn, 1) := dk_172 (dk_at dksX0_addOperation_1 10 rfl rfl)
abbrev cX0_receive : ByteArray := method_7_code
def yX0_receive : MethodName := ⟨RX0, "receive", "(LFoundrymark;IIIII[J)I"⟩
def dkwX0_receive_1 : List UInt8 := [58, 7, 5, 172, 58, 7, 6, 172, 58, 7, 7, 172, 3, 172]
abbrev dktX0_receive_1 : List UInt8 := dkwX0_receive_1 ++ []
def dkwX0_receive_0 : List UInt8 := [25, 6, 3, 42, 27, 28, 29, 21, 4, 21, 5, 182, 0, 31, 133, 80, 167, 0, 19, 58, 7, 4, 172]
abbrev dktX0_receive_0 : List UInt8 := dkwX0_receive_0 ++ dktX0_receive_1
theorem dksX0_receive_0 : cX0_receive.data.toList.drop 0 = dktX0_receive_0 := by decide +kernel
theorem dksX0_receive_1 : cX0_receive.data.toList.drop 23 = dktX0_receive_1 := dk_seg dksX0_receive_0 23 rfl rfl
theorem dX0_receive_0 : decode cX0_receive 0 = .ok (.aload 6, 2) := dk_25 6 (dk_at dksX0_receive_0 0 rfl rfl)
theorem dX0_receive_2 : decode cX0_receive 2 = .ok (.iconst 0, 1) := dk_3 (dk_at dksX0_receive_0 2 rfl rfl)
theorem dX0_receive_3 : decode cX0_receive 3 = .ok (.aload_n 0, 1) := dk_42 (dk_at dksX0_receive_0 3 rfl rfl)
theorem dX0_receive_4 : decode cX0_receive 4 = .ok (.iload_n 1, 1) := dk_27 (dk_at dksX0_receive_0 4 rfl rfl)
theorem dX0_receive_5 : decode cX0_receive 5 = .ok (.iload_n 2, 1) := dk_28 (dk_at dksX0_receive_0 5 rfl rfl)
theorem dX0_receive_6 : decode cX0_receive 6 = .ok (.iload_n 3, 1) := dk_29 (dk_at dksX0_receive_0 6 rfl rfl)
theorem dX0_receive_7 : decode cX0_receive 7 = .ok (.iload 4, 2) := dk_21 4 (dk_at dksX0_receive_0 7 rfl rfl)
theorem dX0_receive_9 : decode cX0_receive 9 = .ok (.iload 5, 2) := dk_21 5 (dk_at dksX0_receive_0 9 rfl rfl)
theorem dX0_receive_11 : decode cX0_receive 11 = .ok (.invokevirtual 31, 3) := dk_182 0 31 (dk_at dksX0_receive_0 11 rfl rfl)
theorem dX0_receive_14 : decode cX0_receive 14 = .ok (.i2l, 1) := dk_133 (dk_at dksX0_receive_0 14 rfl rfl)
theorem dX0_receive_15 : decode cX0_receive 15 = .ok (.lastore, 1) := dk_80 (dk_at dksX0_receive_0 15 rfl rfl)
theorem dX0_receive_16 : decode cX0_receive 16 = .ok (.goto 19, 3) := dk_167 0 19 (dk_at dksX0_receive_0 16 rfl rfl)
theorem dX0_receive_19 : decode cX0_receive 19 = .ok (.astore 7, 2) := dk_58 7 (dk_at dksX0_receive_0 19 rfl rfl)
theorem dX0_receive_21 : decode cX0_receive 21 = .ok (.iconst 1, 1) := dk_4 (dk_at dksX0_receive_0 21 rfl rfl)
theorem dX0_receive_22 : decode cX0_receive 22 = .ok (.ireturn, 1) := dk_172 (dk_at dksX0_receive_0 22 rfl rfl)
theorem dX0_receive_23 : decode cX0_receive 23 = .ok (.astore 7, 2) := dk_58 7 (dk_at dksX0_receive_1 0 rfl rfl)
theorem dX0_receive_25 : decode cX0_receive 25 = .ok (.iconst 2, 1) := dk_5 (dk_at dksX0_receive_1 2 rfl rfl)
theorem dX0_receive_26 : decode cX0_receive 26 = .ok (.ireturn, 1) := dk_172 (dk_at dksX0_receive_1 3 rfl rfl)
theorem dX0_receive_27 : decode cX0_receive 27 = .ok (.astore 7, 2) := dk_58 7 (dk_at dksX0_receive_1 4 rfl rfl)
theorem dX0_receive_29 : decode cX0_receive 29 = .ok (.iconst 3, 1) := dk_6 (dk_at dksX0_receive_1 6 rfl rfl)
theorem dX0_receive_30 : decode cX0_receive 30 = .ok (.ireturn, 1) := dk_172 (dk_at dksX0_receive_1 7 rfl rfl)
theorem dX0_receive_31 : decode cX0_receive 31 = .ok (.astore 7, 2) := dk_58 7 (dk_at dksX0_receive_1 8 rfl rfl)
theorem dX0_receive_33 : decode cX0_receive 33 = .ok (.iconst 4, 1) := dk_7 (dk_at dksX0_receive_1 10 rfl rfl)
theorem dX0_receive_34 : decode cX0_receive 34 = .ok (.ireturn, 1) := dk_172 (dk_at dksX0_receive_1 11 rfl rfl)
theorem dX0_receive_35 : decode cX0_receive 35 = .ok (.iconst 0, 1) := dk_3 (dk_at dksX0_receive_1 12 rfl rfl)
theorem dX0_receive_36 : decode cX0_receive 36 = .ok (.ireturn, 1) := dk_172 (dk_at dksX0_receive_1 13 rfl rfl)
abbrev cX0_rule : ByteArray := method_8_code
def yX0_rule : MethodName := ⟨RX0, "rule", "(LFoundrymark;I[J)I"⟩
def dkwX0_rule_0 : List UInt8 := [44, 3, 42, 27, 182, 0, 35, 133, 80, 167, 0, 6, 78, 4, 172, 3, 172]
abbrev dktX0_rule_0 : List UInt8 := dkwX0_rule_0 ++ []
theorem dksX0_rule_0 : cX0_rule.data.toList.drop 0 = dktX0_rule_0 := by decide +kernel
theorem dX0_rule_0 : decode cX0_rule 0 = .ok (.aload_n 2, 1) := dk_44 (dk_at dksX0_rule_0 0 rfl rfl)
theorem dX0_rule_1 : decode cX0_rule 1 = .ok (.iconst 0, 1) := dk_3 (dk_at dksX0_rule_0 1 rfl rfl)
theorem dX0_rule_2 : decode cX0_rule 2 = .ok (.aload_n 0, 1) := dk_42 (dk_at dksX0_rule_0 2 rfl rfl)
theorem dX0_rule_3 : decode cX0_rule 3 = .ok (.iload_n 1, 1) := dk_27 (dk_at dksX0_rule_0 3 rfl rfl)
theorem dX0_rule_4 : decode cX0_rule 4 = .ok (.invokevirtual 35, 3) := dk_182 0 35 (dk_at dksX0_rule_0 4 rfl rfl)
theorem dX0_rule_7 : decode cX0_rule 7 = .ok (.i2l, 1) := dk_133 (dk_at dksX0_rule_0 7 rfl rfl)
theorem dX0_rule_8 : decode cX0_rule 8 = .ok (.lastore, 1) := dk_80 (dk_at dksX0_rule_0 8 rfl rfl)
theorem dX0_rule_9 : decode cX0_rule 9 = .ok (.goto 6, 3) := dk_167 0 6 (dk_at dksX0_rule_0 9 rfl rfl)
theorem dX0_rule_12 : decode cX0_rule 12 = .ok (.astore_n 3, 1) := dk_78 (dk_at dksX0_rule_0 12 rfl rfl)
theorem dX0_rule_13 : decode cX0_rule 13 = .ok (.iconst 1, 1) := dk_4 (dk_at dksX0_rule_0 13 rfl rfl)
theorem dX0_rule_14 : decode cX0_rule 14 = .ok (.ireturn, 1) := dk_172 (dk_at dksX0_rule_0 14 rfl rfl)
theorem dX0_rule_15 : decode cX0_rule 15 = .ok (.iconst 0, 1) := dk_3 (dk_at dksX0_rule_0 15 rfl rfl)
theorem dX0_rule_16 : decode cX0_rule 16 = .ok (.ireturn, 1) := dk_172 (dk_at dksX0_rule_0 16 rfl rfl)
abbrev cX0_hold : ByteArray := method_9_code
def yX0_hold : MethodName := ⟨RX0, "hold", "(LFoundrymark;IZ[J)I"⟩
def dkwX0_hold_0 : List UInt8 := [45, 3, 42, 27, 28, 182, 0, 39, 133, 80, 167, 0, 7, 58, 4, 4, 172, 3, 172]
abbrev dktX0_hold_0 : List UInt8 := dkwX0_hold_0 ++ []
theorem dksX0_hold_0 : cX0_hold.data.toList.drop 0 = dktX0_hold_0 := by decide +kernel
theorem dX0_hold_0 : decode cX0_hold 0 = .ok (.aload_n 3, 1) := dk_45 (dk_at dksX0_hold_0 0 rfl rfl)
theorem dX0_hold_1 : decode cX0_hold 1 = .ok (.iconst 0, 1) := dk_3 (dk_at dksX0_hold_0 1 rfl rfl)
theorem dX0_hold_2 : decode cX0_hold 2 = .ok (.aload_n 0, 1) := dk_42 (dk_at dksX0_hold_0 2 rfl rfl)
theorem dX0_hold_3 : decode cX0_hold 3 = .ok (.iload_n 1, 1) := dk_27 (dk_at dksX0_hold_0 3 rfl rfl)
theorem dX0_hold_4 : decode cX0_hold 4 = .ok (.iload_n 2, 1) := dk_28 (dk_at dksX0_hold_0 4 rfl rfl)
theorem dX0_hold_5 : decode cX0_hold 5 = .ok (.invokevirtual 39, 3) := dk_182 0 39 (dk_at dksX0_hold_0 5 rfl rfl)
theorem dX0_hold_8 : decode cX0_hold 8 = .ok (.i2l, 1) := dk_133 (dk_at dksX0_hold_0 8 rfl rfl)
theorem dX0_hold_9 : decode cX0_hold 9 = .ok (.lastore, 1) := dk_80 (dk_at dksX0_hold_0 9 rfl rfl)
theorem dX0_hold_10 : decode cX0_hold 10 = .ok (.goto 7, 3) := dk_167 0 7 (dk_at dksX0_hold_0 10 rfl rfl)
theorem dX0_hold_13 : decode cX0_hold 13 = .ok (.astore 4, 2) := dk_58 4 (dk_at dksX0_hold_0 13 rfl rfl)
theorem dX0_hold_15 : decode cX0_hold 15 = .ok (.iconst 1, 1) := dk_4 (dk_at dksX0_hold_0 15 rfl rfl)
theorem dX0_hold_16 : decode cX0_hold 16 = .ok (.ireturn, 1) := dk_172 (dk_at dksX0_hold_0 16 rfl rfl)
theorem dX0_hold_17 : decode cX0_hold 17 = .ok (.iconst 0, 1) := dk_3 (dk_at dksX0_hold_0 17 rfl rfl)
theorem dX0_hold_18 : decode cX0_hold 18 = .ok (.ireturn, 1) := dk_172 (dk_at dksX0_hold_0 18 rfl rfl)
abbrev cX0_isHeld : ByteArray := method_10_code
def yX0_isHeld : MethodName := ⟨RX0, "isHeld", "(LFoundrymark;I[J)I"⟩
def dkwX0_isHeld_0 : List UInt8 := [44, 3, 42, 27, 182, 0, 43, 153, 0, 7, 10, 167, 0, 4, 9, 80, 167, 0, 6, 78, 4, 172, 3, 172]
abbrev dktX0_isHeld_0 : List UInt8 := dkwX0_isHeld_0 ++ []
theorem dksX0_isHeld_0 : cX0_isHeld.data.toList.drop 0 = dktX0_isHeld_0 := by decide +kernel
theorem dX0_isHeld_0 : decode cX0_isHeld 0 = .ok (.aload_n 2, 1) := dk_44 (dk_at dksX0_isHeld_0 0 rfl rfl)
theorem dX0_isHeld_1 : decode cX0_isHeld 1 = .ok (.iconst 0, 1) := dk_3 (dk_at dksX0_isHeld_0 1 rfl rfl)
theorem dX0_isHeld_2 : decode cX0_isHeld 2 = .ok (.aload_n 0, 1) := dk_42 (dk_at dksX0_isHeld_0 2 rfl rfl)
theorem dX0_isHeld_3 : decode cX0_isHeld 3 = .ok (.iload_n 1, 1) := dk_27 (dk_at dksX0_isHeld_0 3 rfl rfl)
theorem dX0_isHeld_4 : decode cX0_isHeld 4 = .ok (.invokevirtual 43, 3) := dk_182 0 43 (dk_at dksX0_isHeld_0 4 rfl rfl)
theorem dX0_isHeld_7 : decode cX0_isHeld 7 = .ok (.ifCond .eq 7, 3) := dk_153 0 7 (dk_at dksX0_isHeld_0 7 rfl rfl)
theorem dX0_isHeld_10 : decode cX0_isHeld 10 = .ok (.lconst 1, 1) := dk_10 (dk_at dksX0_isHeld_0 10 rfl rfl)
theorem dX0_isHeld_11 : decode cX0_isHeld 11 = .ok (.goto 4, 3) := dk_167 0 4 (dk_at dksX0_isHeld_0 11 rfl rfl)
theorem dX0_isHeld_14 : decode cX0_isHeld 14 = .ok (.lconst 0, 1) := dk_9 (dk_at dksX0_isHeld_0 14 rfl rfl)
theorem dX0_isHeld_15 : decode cX0_isHeld 15 = .ok (.lastore, 1) := dk_80 (dk_at dksX0_isHeld_0 15 rfl rfl)
theorem dX0_isHeld_16 : decode cX0_isHeld 16 = .ok (.goto 6, 3) := dk_167 0 6 (dk_at dksX0_isHeld_0 16 rfl rfl)
theorem dX0_isHeld_19 : decode cX0_isHeld 19 = .ok (.astore_n 3, 1) := dk_78 (dk_at dksX0_isHeld_0 19 rfl rfl)
theorem dX0_isHeld_20 : decode cX0_isHeld 20 = .ok (.iconst 1, 1) := dk_4 (dk_at dksX0_isHeld_0 20 rfl rfl)
theorem dX0_isHeld_21 : decode cX0_isHeld 21 = .ok (.ireturn, 1) := dk_172 (dk_at dksX0_isHeld_0 21 rfl rfl)
theorem dX0_isHeld_22 : decode cX0_isHeld 22 = .ok (.iconst 0, 1) := dk_3 (dk_at dksX0_isHeld_0 22 rfl rfl)
theorem dX0_isHeld_23 : decode cX0_isHeld 23 = .ok (.ireturn, 1) := dk_172 (dk_at dksX0_isHeld_0 23 rfl rfl)
abbrev cX0_setChart : ByteArray := method_11_code
def yX0_setChart : MethodName := ⟨RX0, "setChart", "(LFoundrymark;III[J)I"⟩
def dkwX0_setChart_1 : List UInt8 := [172]
abbrev dktX0_setChart_1 : List UInt8 := dkwX0_setChart_1 ++ []
def dkwX0_setChart_0 : List UInt8 := [25, 4, 3, 42, 27, 28, 29, 182, 0, 47, 133, 80, 167, 0, 11, 58, 5, 4, 172, 58, 5, 5, 172, 3]
abbrev dktX0_setChart_0 : List UInt8 := dkwX0_setChart_0 ++ dktX0_setChart_1
theorem dksX0_setChart_0 : cX0_setChart.data.toList.drop 0 = dktX0_setChart_0 := by decide +kernel
theorem dksX0_setChart_1 : cX0_setChart.data.toList.drop 24 = dktX0_setChart_1 := dk_seg dksX0_setChart_0 24 rfl rfl
theorem dX0_setChart_0 : decode cX0_setChart 0 = .ok (.aload 4, 2) := dk_25 4 (dk_at dksX0_setChart_0 0 rfl rfl)
theorem dX0_setChart_2 : decode cX0_setChart 2 = .ok (.iconst 0, 1) := dk_3 (dk_at dksX0_setChart_0 2 rfl rfl)
theorem dX0_setChart_3 : decode cX0_setChart 3 = .ok (.aload_n 0, 1) := dk_42 (dk_at dksX0_setChart_0 3 rfl rfl)
theorem dX0_setChart_4 : decode cX0_setChart 4 = .ok (.iload_n 1, 1) := dk_27 (dk_at dksX0_setChart_0 4 rfl rfl)
theorem dX0_setChart_5 : decode cX0_setChart 5 = .ok (.iload_n 2, 1) := dk_28 (dk_at dksX0_setChart_0 5 rfl rfl)
theorem dX0_setChart_6 : decode cX0_setChart 6 = .ok (.iload_n 3, 1) := dk_29 (dk_at dksX0_setChart_0 6 rfl rfl)
theorem dX0_setChart_7 : decode cX0_setChart 7 = .ok (.invokevirtual 47, 3) := dk_182 0 47 (dk_at dksX0_setChart_0 7 rfl rfl)
theorem dX0_setChart_10 : decode cX0_setChart 10 = .ok (.i2l, 1) := dk_133 (dk_at dksX0_setChart_0 10 rfl rfl)
theorem dX0_setChart_11 : decode cX0_setChart 11 = .ok (.lastore, 1) := dk_80 (dk_at dksX0_setChart_0 11 rfl rfl)
theorem dX0_setChart_12 : decode cX0_setChart 12 = .ok (.goto 11, 3) := dk_167 0 11 (dk_at dksX0_setChart_0 12 rfl rfl)
theorem dX0_setChart_15 : decode cX0_setChart 15 = .ok (.astore 5, 2) := dk_58 5 (dk_at dksX0_setChart_0 15 rfl rfl)
theorem dX0_setChart_17 : decode cX0_setChart 17 = .ok (.iconst 1, 1) := dk_4 (dk_at dksX0_setChart_0 17 rfl rfl)
theorem dX0_setChart_18 : decode cX0_setChart 18 = .ok (.ireturn, 1) := dk_172 (dk_at dksX0_setChart_0 18 rfl rfl)
theorem dX0_setChart_19 : decode cX0_setChart 19 = .ok (.astore 5, 2) := dk_58 5 (dk_at dksX0_setChart_0 19 rfl rfl)
theorem dX0_setChart_21 : decode cX0_setChart 21 = .ok (.iconst 2, 1) := dk_5 (dk_at dksX0_setChart_0 21 rfl rfl)
theorem dX0_setChart_22 : decode cX0_setChart 22 = .ok (.ireturn, 1) := dk_172 (dk_at dksX0_setChart_0 22 rfl rfl)
theorem dX0_setChart_23 : decode cX0_setChart 23 = .ok (.iconst 0, 1) := dk_3 (dk_at dksX0_setChart_0 23 rfl rfl)
theorem dX0_setChart_24 : decode cX0_setChart 24 = .ok (.ireturn, 1) := dk_172 (dk_at dksX0_setChart_1 0 rfl rfl)
abbrev cX0_measure : ByteArray := method_12_code
def yX0_measure : MethodName := ⟨RX0, "measure", "(LFoundrymark;II[J)I"⟩
def dkwX0_measure_1 : List UInt8 := [58, 4, 5, 172, 3, 172]
abbrev dktX0_measure_1 : List UInt8 := dkwX0_measure_1 ++ []
def dkwX0_measure_0 : List UInt8 := [45, 3, 42, 27, 28, 182, 0, 51, 153, 0, 7, 10, 167, 0, 4, 9, 80, 167, 0, 11, 58, 4, 4, 172]
abbrev dktX0_measure_0 : List UInt8 := dkwX0_measure_0 ++ dktX0_measure_1
theorem dksX0_measure_0 : cX0_measure.data.toList.drop 0 = dktX0_measure_0 := by decide +kernel
theorem dksX0_measure_1 : cX0_measure.data.toList.drop 24 = dktX0_measure_1 := dk_seg dksX0_measure_0 24 rfl rfl
theorem dX0_measure_0 : decode cX0_measure 0 = .ok (.aload_n 3, 1) := dk_45 (dk_at dksX0_measure_0 0 rfl rfl)
theorem dX0_measure_1 : decode cX0_measure 1 = .ok (.iconst 0, 1) := dk_3 (dk_at dksX0_measure_0 1 rfl rfl)
theorem dX0_measure_2 : decode cX0_measure 2 = .ok (.aload_n 0, 1) := dk_42 (dk_at dksX0_measure_0 2 rfl rfl)
theorem dX0_measure_3 : decode cX0_measure 3 = .ok (.iload_n 1, 1) := dk_27 (dk_at dksX0_measure_0 3 rfl rfl)
theorem dX0_measure_4 : decode cX0_measure 4 = .ok (.iload_n 2, 1) := dk_28 (dk_at dksX0_measure_0 4 rfl rfl)
theorem dX0_measure_5 : decode cX0_measure 5 = .ok (.invokevirtual 51, 3) := dk_182 0 51 (dk_at dksX0_measure_0 5 rfl rfl)
theorem dX0_measure_8 : decode cX0_measure 8 = .ok (.ifCond .eq 7, 3) := dk_153 0 7 (dk_at dksX0_measure_0 8 rfl rfl)
theorem dX0_measure_11 : decode cX0_measure 11 = .ok (.lconst 1, 1) := dk_10 (dk_at dksX0_measure_0 11 rfl rfl)
theorem dX0_measure_12 : decode cX0_measure 12 = .ok (.goto 4, 3) := dk_167 0 4 (dk_at dksX0_measure_0 12 rfl rfl)
theorem dX0_measure_15 : decode cX0_measure 15 = .ok (.lconst 0, 1) := dk_9 (dk_at dksX0_measure_0 15 rfl rfl)
theorem dX0_measure_16 : decode cX0_measure 16 = .ok (.lastore, 1) := dk_80 (dk_at dksX0_measure_0 16 rfl rfl)
theorem dX0_measure_17 : decode cX0_measure 17 = .ok (.goto 11, 3) := dk_167 0 11 (dk_at dksX0_measure_0 17 rfl rfl)
theorem dX0_measure_20 : decode cX0_measure 20 = .ok (.astore 4, 2) := dk_58 4 (dk_at dksX0_measure_0 20 rfl rfl)
theorem dX0_measure_22 : decode cX0_measure 22 = .ok (.iconst 1, 1) := dk_4 (dk_at dksX0_measure_0 22 rfl rfl)
theorem dX0_measure_23 : decode cX0_measure 23 = .ok (.ireturn, 1) := dk_172 (dk_at dksX0_measure_0 23 rfl rfl)
theorem dX0_measure_24 : decode cX0_measure 24 = .ok (.astore 4, 2) := dk_58 4 (dk_at dksX0_measure_1 0 rfl rfl)
theorem dX0_measure_26 : decode cX0_measure 26 = .ok (.iconst 2, 1) := dk_5 (dk_at dksX0_measure_1 2 rfl rfl)
theorem dX0_measure_27 : decode cX0_measure 27 = .ok (.ireturn, 1) := dk_172 (dk_at dksX0_measure_1 3 rfl rfl)
theorem dX0_measure_28 : decode cX0_measure 28 = .ok (.iconst 0, 1) := dk_3 (dk_at dksX0_measure_1 4 rfl rfl)
theorem dX0_measure_29 : decode cX0_measure 29 = .ok (.ireturn, 1) := dk_172 (dk_at dksX0_measure_1 5 rfl rfl)
abbrev cX0_partOf : ByteArray := method_13_code
def yX0_partOf : MethodName := ⟨RX0, "partOf", "(LFoundrymark;I[J)I"⟩
def dkwX0_partOf_0 : List UInt8 := [44, 3, 42, 27, 182, 0, 55, 133, 80, 167, 0, 6, 78, 4, 172, 3, 172]
abbrev dktX0_partOf_0 : List UInt8 := dkwX0_partOf_0 ++ []
theorem dksX0_partOf_0 : cX0_partOf.data.toList.drop 0 = dktX0_partOf_0 := by decide +kernel
theorem dX0_partOf_0 : decode cX0_partOf 0 = .ok (.aload_n 2, 1) := dk_44 (dk_at dksX0_partOf_0 0 rfl rfl)
theorem dX0_partOf_1 : decode cX0_partOf 1 = .ok (.iconst 0, 1) := dk_3 (dk_at dksX0_partOf_0 1 rfl rfl)
theorem dX0_partOf_2 : decode cX0_partOf 2 = .ok (.aload_n 0, 1) := dk_42 (dk_at dksX0_partOf_0 2 rfl rfl)
theorem dX0_partOf_3 : decode cX0_partOf 3 = .ok (.iload_n 1, 1) := dk_27 (dk_at dksX0_partOf_0 3 rfl rfl)
theorem dX0_partOf_4 : decode cX0_partOf 4 = .ok (.invokevirtual 55, 3) := dk_182 0 55 (dk_at dksX0_partOf_0 4 rfl rfl)
theorem dX0_partOf_7 : decode cX0_partOf 7 = .ok (.i2l, 1) := dk_133 (dk_at dksX0_partOf_0 7 rfl rfl)
theorem dX0_partOf_8 : decode cX0_partOf 8 = .ok (.lastore, 1) := dk_80 (dk_at dksX0_partOf_0 8 rfl rfl)
theorem dX0_partOf_9 : decode cX0_partOf 9 = .ok (.goto 6, 3) := dk_167 0 6 (dk_at dksX0_partOf_0 9 rfl rfl)
theorem dX0_partOf_12 : decode cX0_partOf 12 = .ok (.astore_n 3, 1) := dk_78 (dk_at dksX0_partOf_0 12 rfl rfl)
theorem dX0_partOf_13 : decode cX0_partOf 13 = .ok (.iconst 1, 1) := dk_4 (dk_at dksX0_partOf_0 13 rfl rfl)
theorem dX0_partOf_14 : decode cX0_partOf 14 = .ok (.ireturn, 1) := dk_172 (dk_at dksX0_partOf_0 14 rfl rfl)
theorem dX0_partOf_15 : decode cX0_partOf 15 = .ok (.iconst 0, 1) := dk_3 (dk_at dksX0_partOf_0 15 rfl rfl)
theorem dX0_partOf_16 : decode cX0_partOf 16 = .ok (.ireturn, 1) := dk_172 (dk_at dksX0_partOf_0 16 rfl rfl)
abbrev cX0_rest : ByteArray := method_14_code
def yX0_rest : MethodName := ⟨RX0, "rest", "(LFoundrymark;I[J)I"⟩
def dkwX0_rest_0 : List UInt8 := [44, 3, 42, 27, 182, 0, 59, 133, 80, 167, 0, 6, 78, 4, 172, 3, 172]
abbrev dktX0_rest_0 : List UInt8 := dkwX0_rest_0 ++ []
theorem dksX0_rest_0 : cX0_rest.data.toList.drop 0 = dktX0_rest_0 := by decide +kernel
theorem dX0_rest_0 : decode cX0_rest 0 = .ok (.aload_n 2, 1) := dk_44 (dk_at dksX0_rest_0 0 rfl rfl)
theorem dX0_rest_1 : decode cX0_rest 1 = .ok (.iconst 0, 1) := dk_3 (dk_at dksX0_rest_0 1 rfl rfl)
theorem dX0_rest_2 : decode cX0_rest 2 = .ok (.aload_n 0, 1) := dk_42 (dk_at dksX0_rest_0 2 rfl rfl)
theorem dX0_rest_3 : decode cX0_rest 3 = .ok (.iload_n 1, 1) := dk_27 (dk_at dksX0_rest_0 3 rfl rfl)
theorem dX0_rest_4 : decode cX0_rest 4 = .ok (.invokevirtual 59, 3) := dk_182 0 59 (dk_at dksX0_rest_0 4 rfl rfl)
theorem dX0_rest_7 : decode cX0_rest 7 = .ok (.i2l, 1) := dk_133 (dk_at dksX0_rest_0 7 rfl rfl)
theorem dX0_rest_8 : decode cX0_rest 8 = .ok (.lastore, 1) := dk_80 (dk_at dksX0_rest_0 8 rfl rfl)
theorem dX0_rest_9 : decode cX0_rest 9 = .ok (.goto 6, 3) := dk_167 0 6 (dk_at dksX0_rest_0 9 rfl rfl)
theorem dX0_rest_12 : decode cX0_rest 12 = .ok (.astore_n 3, 1) := dk_78 (dk_at dksX0_rest_0 12 rfl rfl)
theorem dX0_rest_13 : decode cX0_rest 13 = .ok (.iconst 1, 1) := dk_4 (dk_at dksX0_rest_0 13 rfl rfl)
theorem dX0_rest_14 : decode cX0_rest 14 = .ok (.ireturn, 1) := dk_172 (dk_at dksX0_rest_0 14 rfl rfl)
theorem dX0_rest_15 : decode cX0_rest 15 = .ok (.iconst 0, 1) := dk_3 (dk_at dksX0_rest_0 15 rfl rfl)
theorem dX0_rest_16 : decode cX0_rest 16 = .ok (.ireturn, 1) := dk_172 (dk_at dksX0_rest_0 16 rfl rfl)
abbrev cX0_reserved : ByteArray := method_15_code
def yX0_reserved : MethodName := ⟨RX0, "reserved", "(LFoundrymark;I[J)I"⟩
def dkwX0_reserved_0 : List UInt8 := [44, 3, 42, 27, 182, 0, 62, 133, 80, 167, 0, 6, 78, 4, 172, 3, 172]
abbrev dktX0_reserved_0 : List UInt8 := dkwX0_reserved_0 ++ []
theorem dksX0_reserved_0 : cX0_reserved.data.toList.drop 0 = dktX0_reserved_0 := by decide +kernel
theorem dX0_reserved_0 : decode cX0_reserved 0 = .ok (.aload_n 2, 1) := dk_44 (dk_at dksX0_reserved_0 0 rfl rfl)
theorem dX0_reserved_1 : decode cX0_reserved 1 = .ok (.iconst 0, 1) := dk_3 (dk_at dksX0_reserved_0 1 rfl rfl)
theorem dX0_reserved_2 : decode cX0_reserved 2 = .ok (.aload_n 0, 1) := dk_42 (dk_at dksX0_reserved_0 2 rfl rfl)
theorem dX0_reserved_3 : decode cX0_reserved 3 = .ok (.iload_n 1, 1) := dk_27 (dk_at dksX0_reserved_0 3 rfl rfl)
theorem dX0_reserved_4 : decode cX0_reserved 4 = .ok (.invokevirtual 62, 3) := dk_182 0 62 (dk_at dksX0_reserved_0 4 rfl rfl)
theorem dX0_reserved_7 : decode cX0_reserved 7 = .ok (.i2l, 1) := dk_133 (dk_at dksX0_reserved_0 7 rfl rfl)
theorem dX0_reserved_8 : decode cX0_reserved 8 = .ok (.lastore, 1) := dk_80 (dk_at dksX0_reserved_0 8 rfl rfl)
theorem dX0_reserved_9 : decode cX0_reserved 9 = .ok (.goto 6, 3) := dk_167 0 6 (dk_at dksX0_reserved_0 9 rfl rfl)
theorem dX0_reserved_12 : decode cX0_reserved 12 = .ok (.astore_n 3, 1) := dk_78 (dk_at dksX0_reserved_0 12 rfl rfl)
theorem dX0_reserved_13 : decode cX0_reserved 13 = .ok (.iconst 1, 1) := dk_4 (dk_at dksX0_reserved_0 13 rfl rfl)
theorem dX0_reserved_14 : decode cX0_reserved 14 = .ok (.ireturn, 1) := dk_172 (dk_at dksX0_reserved_0 14 rfl rfl)
theorem dX0_reserved_15 : decode cX0_reserved 15 = .ok (.iconst 0, 1) := dk_3 (dk_at dksX0_reserved_0 15 rfl rfl)
theorem dX0_reserved_16 : decode cX0_reserved 16 = .ok (.ireturn, 1) := dk_172 (dk_at dksX0_reserved_0 16 rfl rfl)
abbrev cX0_costOf : ByteArray := method_16_code
def yX0_costOf : MethodName := ⟨RX0, "costOf", "(LFoundrymark;I[J)I"⟩
def dkwX0_costOf_0 : List UInt8 := [44, 3, 42, 27, 182, 0, 65, 80, 167, 0, 6, 78, 4, 172, 3, 172]
abbrev dktX0_costOf_0 : List UInt8 := dkwX0_costOf_0 ++ []
theorem dksX0_costOf_0 : cX0_costOf.data.toList.drop 0 = dktX0_costOf_0 := by decide +kernel
theorem dX0_costOf_0 : decode cX0_costOf 0 = .ok (.aload_n 2, 1) := dk_44 (dk_at dksX0_costOf_0 0 rfl rfl)
theorem dX0_costOf_1 : decode cX0_costOf 1 = .ok (.iconst 0, 1) := dk_3 (dk_at dksX0_costOf_0 1 rfl rfl)
theorem dX0_costOf_2 : decode cX0_costOf 2 = .ok (.aload_n 0, 1) := dk_42 (dk_at dksX0_costOf_0 2 rfl rfl)
theorem dX0_costOf_3 : decode cX0_costOf 3 = .ok (.iload_n 1, 1) := dk_27 (dk_at dksX0_costOf_0 3 rfl rfl)
theorem dX0_costOf_4 : decode cX0_costOf 4 = .ok (.invokevirtual 65, 3) := dk_182 0 65 (dk_at dksX0_costOf_0 4 rfl rfl)
theorem dX0_costOf_7 : decode cX0_costOf 7 = .ok (.lastore, 1) := dk_80 (dk_at dksX0_costOf_0 7 rfl rfl)
theorem dX0_costOf_8 : decode cX0_costOf 8 = .ok (.goto 6, 3) := dk_167 0 6 (dk_at dksX0_costOf_0 8 rfl rfl)
theorem dX0_costOf_11 : decode cX0_costOf 11 = .ok (.astore_n 3, 1) := dk_78 (dk_at dksX0_costOf_0 11 rfl rfl)
theorem dX0_costOf_12 : decode cX0_costOf 12 = .ok (.iconst 1, 1) := dk_4 (dk_at dksX0_costOf_0 12 rfl rfl)
theorem dX0_costOf_13 : decode cX0_costOf 13 = .ok (.ireturn, 1) := dk_172 (dk_at dksX0_costOf_0 13 rfl rfl)
theorem dX0_costOf_14 : decode cX0_costOf 14 = .ok (.iconst 0, 1) := dk_3 (dk_at dksX0_costOf_0 14 rfl rfl)
theorem dX0_costOf_15 : decode cX0_costOf 15 = .ok (.ireturn, 1) := dk_172 (dk_at dksX0_costOf_0 15 rfl rfl)
abbrev cX0_order : ByteArray := method_17_code
def yX0_order : MethodName := ⟨RX0, "order", "(LFoundrymark;IIII[J)I"⟩
def dkwX0_order_1 : List UInt8 := [172, 58, 6, 6, 172, 3, 172]
abbrev dktX0_order_1 : List UInt8 := dkwX0_order_1 ++ []
def dkwX0_order_0 : List UInt8 := [25, 5, 3, 42, 27, 28, 29, 21, 4, 182, 0, 69, 133, 80, 167, 0, 15, 58, 6, 4, 172, 58, 6, 5]
abbrev dktX0_order_0 : List UInt8 := dkwX0_order_0 ++ dktX0_order_1
theorem dksX0_order_0 : cX0_order.data.toList.drop 0 = dktX0_order_0 := by decide +kernel
theorem dksX0_order_1 : cX0_order.data.toList.drop 24 = dktX0_order_1 := dk_seg dksX0_order_0 24 rfl rfl
theorem dX0_order_0 : decode cX0_order 0 = .ok (.aload 5, 2) := dk_25 5 (dk_at dksX0_order_0 0 rfl rfl)
theorem dX0_order_2 : decode cX0_order 2 = .ok (.iconst 0, 1) := dk_3 (dk_at dksX0_order_0 2 rfl rfl)
theorem dX0_order_3 : decode cX0_order 3 = .ok (.aload_n 0, 1) := dk_42 (dk_at dksX0_order_0 3 rfl rfl)
theorem dX0_order_4 : decode cX0_order 4 = .ok (.iload_n 1, 1) := dk_27 (dk_at dksX0_order_0 4 rfl rfl)
theorem dX0_order_5 : decode cX0_order 5 = .ok (.iload_n 2, 1) := dk_28 (dk_at dksX0_order_0 5 rfl rfl)
theorem dX0_order_6 : decode cX0_order 6 = .ok (.iload_n 3, 1) := dk_29 (dk_at dksX0_order_0 6 rfl rfl)
theorem dX0_order_7 : decode cX0_order 7 = .ok (.iload 4, 2) := dk_21 4 (dk_at dksX0_order_0 7 rfl rfl)
theorem dX0_order_9 : decode cX0_order 9 = .ok (.invokevirtual 69, 3) := dk_182 0 69 (dk_at dksX0_order_0 9 rfl rfl)
theorem dX0_order_12 : decode cX0_order 12 = .ok (.i2l, 1) := dk_133 (dk_at dksX0_order_0 12 rfl rfl)
theorem dX0_order_13 : decode cX0_order 13 = .ok (.lastore, 1) := dk_80 (dk_at dksX0_order_0 13 rfl rfl)
theorem dX0_order_14 : decode cX0_order 14 = .ok (.goto 15, 3) := dk_167 0 15 (dk_at dksX0_order_0 14 rfl rfl)
theorem dX0_order_17 : decode cX0_order 17 = .ok (.astore 6, 2) := dk_58 6 (dk_at dksX0_order_0 17 rfl rfl)
theorem dX0_order_19 : decode cX0_order 19 = .ok (.iconst 1, 1) := dk_4 (dk_at dksX0_order_0 19 rfl rfl)
theorem dX0_order_20 : decode cX0_order 20 = .ok (.ireturn, 1) := dk_172 (dk_at dksX0_order_0 20 rfl rfl)
theorem dX0_order_21 : decode cX0_order 21 = .ok (.astore 6, 2) := dk_58 6 (dk_at dksX0_order_0 21 rfl rfl)
theorem dX0_order_23 : decode cX0_order 23 = .ok (.iconst 2, 1) := dk_5 (dk_at dksX0_order_0 23 rfl rfl)
theorem dX0_order_24 : decode cX0_order 24 = .ok (.ireturn, 1) := dk_172 (dk_at dksX0_order_1 0 rfl rfl)
theorem dX0_order_25 : decode cX0_order 25 = .ok (.astore 6, 2) := dk_58 6 (dk_at dksX0_order_1 1 rfl rfl)
theorem dX0_order_27 : decode cX0_order 27 = .ok (.iconst 3, 1) := dk_6 (dk_at dksX0_order_1 3 rfl rfl)
theorem dX0_order_28 : decode cX0_order 28 = .ok (.ireturn, 1) := dk_172 (dk_at dksX0_order_1 4 rfl rfl)
theorem dX0_order_29 : decode cX0_order 29 = .ok (.iconst 0, 1) := dk_3 (dk_at dksX0_order_1 5 rfl rfl)
theorem dX0_order_30 : decode cX0_order 30 = .ok (.ireturn, 1) := dk_172 (dk_at dksX0_order_1 6 rfl rfl)
abbrev cX0_promise : ByteArray := method_18_code
def yX0_promise : MethodName := ⟨RX0, "promise", "(LFoundrymark;I[J)I"⟩
def dkwX0_promise_1 : List UInt8 := [172, 3, 172]
abbrev dktX0_promise_1 : List UInt8 := dkwX0_promise_1 ++ []
def dkwX0_promise_0 : List UInt8 := [44, 3, 42, 27, 182, 0, 72, 153, 0, 7, 10, 167, 0, 4, 9, 80, 167, 0, 9, 78, 4, 172, 78, 5]
abbrev dktX0_promise_0 : List UInt8 := dkwX0_promise_0 ++ dktX0_promise_1
theorem dksX0_promise_0 : cX0_promise.data.toList.drop 0 = dktX0_promise_0 := by decide +kernel
theorem dksX0_promise_1 : cX0_promise.data.toList.drop 24 = dktX0_promise_1 := dk_seg dksX0_promise_0 24 rfl rfl
theorem dX0_promise_0 : decode cX0_promise 0 = .ok (.aload_n 2, 1) := dk_44 (dk_at dksX0_promise_0 0 rfl rfl)
theorem dX0_promise_1 : decode cX0_promise 1 = .ok (.iconst 0, 1) := dk_3 (dk_at dksX0_promise_0 1 rfl rfl)
theorem dX0_promise_2 : decode cX0_promise 2 = .ok (.aload_n 0, 1) := dk_42 (dk_at dksX0_promise_0 2 rfl rfl)
theorem dX0_promise_3 : decode cX0_promise 3 = .ok (.iload_n 1, 1) := dk_27 (dk_at dksX0_promise_0 3 rfl rfl)
theorem dX0_promise_4 : decode cX0_promise 4 = .ok (.invokevirtual 72, 3) := dk_182 0 72 (dk_at dksX0_promise_0 4 rfl rfl)
theorem dX0_promise_7 : decode cX0_promise 7 = .ok (.ifCond .eq 7, 3) := dk_153 0 7 (dk_at dksX0_promise_0 7 rfl rfl)
theorem dX0_promise_10 : decode cX0_promise 10 = .ok (.lconst 1, 1) := dk_10 (dk_at dksX0_promise_0 10 rfl rfl)
theorem dX0_promise_11 : decode cX0_promise 11 = .ok (.goto 4, 3) := dk_167 0 4 (dk_at dksX0_promise_0 11 rfl rfl)
theorem dX0_promise_14 : decode cX0_promise 14 = .ok (.lconst 0, 1) := dk_9 (dk_at dksX0_promise_0 14 rfl rfl)
theorem dX0_promise_15 : decode cX0_promise 15 = .ok (.lastore, 1) := dk_80 (dk_at dksX0_promise_0 15 rfl rfl)
theorem dX0_promise_16 : decode cX0_promise 16 = .ok (.goto 9, 3) := dk_167 0 9 (dk_at dksX0_promise_0 16 rfl rfl)
theorem dX0_promise_19 : decode cX0_promise 19 = .ok (.astore_n 3, 1) := dk_78 (dk_at dksX0_promise_0 19 rfl rfl)
theorem dX0_promise_20 : decode cX0_promise 20 = .ok (.iconst 1, 1) := dk_4 (dk_at dksX0_promise_0 20 rfl rfl)
theorem dX0_promise_21 : decode cX0_promise 21 = .ok (.ireturn, 1) := dk_172 (dk_at dksX0_promise_0 21 rfl rfl)
theorem dX0_promise_22 : decode cX0_promise 22 = .ok (.astore_n 3, 1) := dk_78 (dk_at dksX0_promise_0 22 rfl rfl)
theorem dX0_promise_23 : decode cX0_promise 23 = .ok (.iconst 2, 1) := dk_5 (dk_at dksX0_promise_0 23 rfl rfl)
theorem dX0_promise_24 : decode cX0_promise 24 = .ok (.ireturn, 1) := dk_172 (dk_at dksX0_promise_1 0 rfl rfl)
theorem dX0_promise_25 : decode cX0_promise 25 = .ok (.iconst 0, 1) := dk_3 (dk_at dksX0_promise_1 1 rfl rfl)
theorem dX0_promise_26 : decode cX0_promise 26 = .ok (.ireturn, 1) := dk_172 (dk_at dksX0_promise_1 2 rfl rfl)
abbrev cX0_withdraw : ByteArray := method_19_code
def yX0_withdraw : MethodName := ⟨RX0, "withdraw", "(LFoundrymark;I[J)I"⟩
def dkwX0_withdraw_0 : List UInt8 := [44, 3, 42, 27, 182, 0, 75, 133, 80, 167, 0, 9, 78, 4, 172, 78, 5, 172, 3, 172]
abbrev dktX0_withdraw_0 : List UInt8 := dkwX0_withdraw_0 ++ []
theorem dksX0_withdraw_0 : cX0_withdraw.data.toList.drop 0 = dktX0_withdraw_0 := by decide +kernel
theorem dX0_withdraw_0 : decode cX0_withdraw 0 = .ok (.aload_n 2, 1) := dk_44 (dk_at dksX0_withdraw_0 0 rfl rfl)
theorem dX0_withdraw_1 : decode cX0_withdraw 1 = .ok (.iconst 0, 1) := dk_3 (dk_at dksX0_withdraw_0 1 rfl rfl)
theorem dX0_withdraw_2 : decode cX0_withdraw 2 = .ok (.aload_n 0, 1) := dk_42 (dk_at dksX0_withdraw_0 2 rfl rfl)
theorem dX0_withdraw_3 : decode cX0_withdraw 3 = .ok (.iload_n 1, 1) := dk_27 (dk_at dksX0_withdraw_0 3 rfl rfl)
theorem dX0_withdraw_4 : decode cX0_withdraw 4 = .ok (.invokevirtual 75, 3) := dk_182 0 75 (dk_at dksX0_withdraw_0 4 rfl rfl)
theorem dX0_withdraw_7 : decode cX0_withdraw 7 = .ok (.i2l, 1) := dk_133 (dk_at dksX0_withdraw_0 7 rfl rfl)
theorem dX0_withdraw_8 : decode cX0_withdraw 8 = .ok (.lastore, 1) := dk_80 (dk_at dksX0_withdraw_0 8 rfl rfl)
theorem dX0_withdraw_9 : decode cX0_withdraw 9 = .ok (.goto 9, 3) := dk_167 0 9 (dk_at dksX0_withdraw_0 9 rfl rfl)
theorem dX0_withdraw_12 : decode cX0_withdraw 12 = .ok (.astore_n 3, 1) := dk_78 (dk_at dksX0_withdraw_0 12 rfl rfl)
theorem dX0_withdraw_13 : decode cX0_withdraw 13 = .ok (.iconst 1, 1) := dk_4 (dk_at dksX0_withdraw_0 13 rfl rfl)
theorem dX0_withdraw_14 : decode cX0_withdraw 14 = .ok (.ireturn, 1) := dk_172 (dk_at dksX0_withdraw_0 14 rfl rfl)
theorem dX0_withdraw_15 : decode cX0_withdraw 15 = .ok (.astore_n 3, 1) := dk_78 (dk_at dksX0_withdraw_0 15 rfl rfl)
theorem dX0_withdraw_16 : decode cX0_withdraw 16 = .ok (.iconst 2, 1) := dk_5 (dk_at dksX0_withdraw_0 16 rfl rfl)
theorem dX0_withdraw_17 : decode cX0_withdraw 17 = .ok (.ireturn, 1) := dk_172 (dk_at dksX0_withdraw_0 17 rfl rfl)
theorem dX0_withdraw_18 : decode cX0_withdraw 18 = .ok (.iconst 0, 1) := dk_3 (dk_at dksX0_withdraw_0 18 rfl rfl)
theorem dX0_withdraw_19 : decode cX0_withdraw 19 = .ok (.ireturn, 1) := dk_172 (dk_at dksX0_withdraw_0 19 rfl rfl)
abbrev cX0_release : ByteArray := method_20_code
def yX0_release : MethodName := ⟨RX0, "release", "(LFoundrymark;I[J)I"⟩
def dkwX0_release_1 : List UInt8 := [172, 3, 172]
abbrev dktX0_release_1 : List UInt8 := dkwX0_release_1 ++ []
def dkwX0_release_0 : List UInt8 := [44, 3, 42, 27, 182, 0, 78, 153, 0, 7, 10, 167, 0, 4, 9, 80, 167, 0, 9, 78, 4, 172, 78, 5]
abbrev dktX0_release_0 : List UInt8 := dkwX0_release_0 ++ dktX0_release_1
theorem dksX0_release_0 : cX0_release.data.toList.drop 0 = dktX0_release_0 := by decide +kernel
theorem dksX0_release_1 : cX0_release.data.toList.drop 24 = dktX0_release_1 := dk_seg dksX0_release_0 24 rfl rfl
theorem dX0_release_0 : decode cX0_release 0 = .ok (.aload_n 2, 1) := dk_44 (dk_at dksX0_release_0 0 rfl rfl)
theorem dX0_release_1 : decode cX0_release 1 = .ok (.iconst 0, 1) := dk_3 (dk_at dksX0_release_0 1 rfl rfl)
theorem dX0_release_2 : decode cX0_release 2 = .ok (.aload_n 0, 1) := dk_42 (dk_at dksX0_release_0 2 rfl rfl)
theorem dX0_release_3 : decode cX0_release 3 = .ok (.iload_n 1, 1) := dk_27 (dk_at dksX0_release_0 3 rfl rfl)
theorem dX0_release_4 : decode cX0_release 4 = .ok (.invokevirtual 78, 3) := dk_182 0 78 (dk_at dksX0_release_0 4 rfl rfl)
theorem dX0_release_7 : decode cX0_release 7 = .ok (.ifCond .eq 7, 3) := dk_153 0 7 (dk_at dksX0_release_0 7 rfl rfl)
theorem dX0_release_10 : decode cX0_release 10 = .ok (.lconst 1, 1) := dk_10 (dk_at dksX0_release_0 10 rfl rfl)
theorem dX0_release_11 : decode cX0_release 11 = .ok (.goto 4, 3) := dk_167 0 4 (dk_at dksX0_release_0 11 rfl rfl)
theorem dX0_release_14 : decode cX0_release 14 = .ok (.lconst 0, 1) := dk_9 (dk_at dksX0_release_0 14 rfl rfl)
theorem dX0_release_15 : decode cX0_release 15 = .ok (.lastore, 1) := dk_80 (dk_at dksX0_release_0 15 rfl rfl)
theorem dX0_release_16 : decode cX0_release 16 = .ok (.goto 9, 3) := dk_167 0 9 (dk_at dksX0_release_0 16 rfl rfl)
theorem dX0_release_19 : decode cX0_release 19 = .ok (.astore_n 3, 1) := dk_78 (dk_at dksX0_release_0 19 rfl rfl)
theorem dX0_release_20 : decode cX0_release 20 = .ok (.iconst 1, 1) := dk_4 (dk_at dksX0_release_0 20 rfl rfl)
theorem dX0_release_21 : decode cX0_release 21 = .ok (.ireturn, 1) := dk_172 (dk_at dksX0_release_0 21 rfl rfl)
theorem dX0_release_22 : decode cX0_release 22 = .ok (.astore_n 3, 1) := dk_78 (dk_at dksX0_release_0 22 rfl rfl)
theorem dX0_release_23 : decode cX0_release 23 = .ok (.iconst 2, 1) := dk_5 (dk_at dksX0_release_0 23 rfl rfl)
theorem dX0_release_24 : decode cX0_release 24 = .ok (.ireturn, 1) := dk_172 (dk_at dksX0_release_1 0 rfl rfl)
theorem dX0_release_25 : decode cX0_release 25 = .ok (.iconst 0, 1) := dk_3 (dk_at dksX0_release_1 1 rfl rfl)
theorem dX0_release_26 : decode cX0_release 26 = .ok (.ireturn, 1) := dk_172 (dk_at dksX0_release_1 2 rfl rfl)
abbrev cX0_scrap : ByteArray := method_21_code
def yX0_scrap : MethodName := ⟨RX0, "scrap", "(LFoundrymark;II[J)I"⟩
def dkwX0_scrap_1 : List UInt8 := [172, 3, 172]
abbrev dktX0_scrap_1 : List UInt8 := dkwX0_scrap_1 ++ []
def dkwX0_scrap_0 : List UInt8 := [45, 3, 42, 27, 28, 182, 0, 81, 133, 80, 167, 0, 15, 58, 4, 4, 172, 58, 4, 5, 172, 58, 4, 6]
abbrev dktX0_scrap_0 : List UInt8 := dkwX0_scrap_0 ++ dktX0_scrap_1
theorem dksX0_scrap_0 : cX0_scrap.data.toList.drop 0 = dktX0_scrap_0 := by decide +kernel
theorem dksX0_scrap_1 : cX0_scrap.data.toList.drop 24 = dktX0_scrap_1 := dk_seg dksX0_scrap_0 24 rfl rfl
theorem dX0_scrap_0 : decode cX0_scrap 0 = .ok (.aload_n 3, 1) := dk_45 (dk_at dksX0_scrap_0 0 rfl rfl)
theorem dX0_scrap_1 : decode cX0_scrap 1 = .ok (.iconst 0, 1) := dk_3 (dk_at dksX0_scrap_0 1 rfl rfl)
theorem dX0_scrap_2 : decode cX0_scrap 2 = .ok (.aload_n 0, 1) := dk_42 (dk_at dksX0_scrap_0 2 rfl rfl)
theorem dX0_scrap_3 : decode cX0_scrap 3 = .ok (.iload_n 1, 1) := dk_27 (dk_at dksX0_scrap_0 3 rfl rfl)
theorem dX0_scrap_4 : decode cX0_scrap 4 = .ok (.iload_n 2, 1) := dk_28 (dk_at dksX0_scrap_0 4 rfl rfl)
theorem dX0_scrap_5 : decode cX0_scrap 5 = .ok (.invokevirtual 81, 3) := dk_182 0 81 (dk_at dksX0_scrap_0 5 rfl rfl)
theorem dX0_scrap_8 : decode cX0_scrap 8 = .ok (.i2l, 1) := dk_133 (dk_at dksX0_scrap_0 8 rfl rfl)
theorem dX0_scrap_9 : decode cX0_scrap 9 = .ok (.lastore, 1) := dk_80 (dk_at dksX0_scrap_0 9 rfl rfl)
theorem dX0_scrap_10 : decode cX0_scrap 10 = .ok (.goto 15, 3) := dk_167 0 15 (dk_at dksX0_scrap_0 10 rfl rfl)
theorem dX0_scrap_13 : decode cX0_scrap 13 = .ok (.astore 4, 2) := dk_58 4 (dk_at dksX0_scrap_0 13 rfl rfl)
theorem dX0_scrap_15 : decode cX0_scrap 15 = .ok (.iconst 1, 1) := dk_4 (dk_at dksX0_scrap_0 15 rfl rfl)
theorem dX0_scrap_16 : decode cX0_scrap 16 = .ok (.ireturn, 1) := dk_172 (dk_at dksX0_scrap_0 16 rfl rfl)
theorem dX0_scrap_17 : decode cX0_scrap 17 = .ok (.astore 4, 2) := dk_58 4 (dk_at dksX0_scrap_0 17 rfl rfl)
theorem dX0_scrap_19 : decode cX0_scrap 19 = .ok (.iconst 2, 1) := dk_5 (dk_at dksX0_scrap_0 19 rfl rfl)
theorem dX0_scrap_20 : decode cX0_scrap 20 = .ok (.ireturn, 1) := dk_172 (dk_at dksX0_scrap_0 20 rfl rfl)
theorem dX0_scrap_21 : decode cX0_scrap 21 = .ok (.astore 4, 2) := dk_58 4 (dk_at dksX0_scrap_0 21 rfl rfl)
theorem dX0_scrap_23 : decode cX0_scrap 23 = .ok (.iconst 3, 1) := dk_6 (dk_at dksX0_scrap_0 23 rfl rfl)
theorem dX0_scrap_24 : decode cX0_scrap 24 = .ok (.ireturn, 1) := dk_172 (dk_at dksX0_scrap_1 0 rfl rfl)
theorem dX0_scrap_25 : decode cX0_scrap 25 = .ok (.iconst 0, 1) := dk_3 (dk_at dksX0_scrap_1 1 rfl rfl)
theorem dX0_scrap_26 : decode cX0_scrap 26 = .ok (.ireturn, 1) := dk_172 (dk_at dksX0_scrap_1 2 rfl rfl)
abbrev cX0_advance : ByteArray := method_22_code
def yX0_advance : MethodName := ⟨RX0, "advance", "(LFoundrymark;I[J)I"⟩
def dkwX0_advance_0 : List UInt8 := [44, 3, 42, 27, 182, 0, 85, 133, 80, 167, 0, 9, 78, 4, 172, 78, 5, 172, 3, 172]
abbrev dktX0_advance_0 : List UInt8 := dkwX0_advance_0 ++ []
theorem dksX0_advance_0 : cX0_advance.data.toList.drop 0 = dktX0_advance_0 := by decide +kernel
theorem dX0_advance_0 : decode cX0_advance 0 = .ok (.aload_n 2, 1) := dk_44 (dk_at dksX0_advance_0 0 rfl rfl)
theorem dX0_advance_1 : decode cX0_advance 1 = .ok (.iconst 0, 1) := dk_3 (dk_at dksX0_advance_0 1 rfl rfl)
theorem dX0_advance_2 : decode cX0_advance 2 = .ok (.aload_n 0, 1) := dk_42 (dk_at dksX0_advance_0 2 rfl rfl)
theorem dX0_advance_3 : decode cX0_advance 3 = .ok (.iload_n 1, 1) := dk_27 (dk_at dksX0_advance_0 3 rfl rfl)
theorem dX0_advance_4 : decode cX0_advance 4 = .ok (.invokevirtual 85, 3) := dk_182 0 85 (dk_at dksX0_advance_0 4 rfl rfl)
theorem dX0_advance_7 : decode cX0_advance 7 = .ok (.i2l, 1) := dk_133 (dk_at dksX0_advance_0 7 rfl rfl)
theorem dX0_advance_8 : decode cX0_advance 8 = .ok (.lastore, 1) := dk_80 (dk_at dksX0_advance_0 8 rfl rfl)
theorem dX0_advance_9 : decode cX0_advance 9 = .ok (.goto 9, 3) := dk_167 0 9 (dk_at dksX0_advance_0 9 rfl rfl)
theorem dX0_advance_12 : decode cX0_advance 12 = .ok (.astore_n 3, 1) := dk_78 (dk_at dksX0_advance_0 12 rfl rfl)
theorem dX0_advance_13 : decode cX0_advance 13 = .ok (.iconst 1, 1) := dk_4 (dk_at dksX0_advance_0 13 rfl rfl)
theorem dX0_advance_14 : decode cX0_advance 14 = .ok (.ireturn, 1) := dk_172 (dk_at dksX0_advance_0 14 rfl rfl)
theorem dX0_advance_15 : decode cX0_advance 15 = .ok (.astore_n 3, 1) := dk_78 (dk_at dksX0_advance_0 15 rfl rfl)
theorem dX0_advance_16 : decode cX0_advance 16 = .ok (.iconst 2, 1) := dk_5 (dk_at dksX0_advance_0 16 rfl rfl)
theorem dX0_advance_17 : decode cX0_advance 17 = .ok (.ireturn, 1) := dk_172 (dk_at dksX0_advance_0 17 rfl rfl)
theorem dX0_advance_18 : decode cX0_advance 18 = .ok (.iconst 0, 1) := dk_3 (dk_at dksX0_advance_0 18 rfl rfl)
theorem dX0_advance_19 : decode cX0_advance 19 = .ok (.ireturn, 1) := dk_172 (dk_at dksX0_advance_0 19 rfl rfl)
abbrev cX0_deliver : ByteArray := method_23_code
def yX0_deliver : MethodName := ⟨RX0, "deliver", "(LFoundrymark;I[J)I"⟩
def dkwX0_deliver_1 : List UInt8 := [172, 3, 172]
abbrev dktX0_deliver_1 : List UInt8 := dkwX0_deliver_1 ++ []
def dkwX0_deliver_0 : List UInt8 := [44, 3, 42, 27, 182, 0, 88, 153, 0, 7, 10, 167, 0, 4, 9, 80, 167, 0, 9, 78, 4, 172, 78, 5]
abbrev dktX0_deliver_0 : List UInt8 := dkwX0_deliver_0 ++ dktX0_deliver_1
theorem dksX0_deliver_0 : cX0_deliver.data.toList.drop 0 = dktX0_deliver_0 := by decide +kernel
theorem dksX0_deliver_1 : cX0_deliver.data.toList.drop 24 = dktX0_deliver_1 := dk_seg dksX0_deliver_0 24 rfl rfl
theorem dX0_deliver_0 : decode cX0_deliver 0 = .ok (.aload_n 2, 1) := dk_44 (dk_at dksX0_deliver_0 0 rfl rfl)
theorem dX0_deliver_1 : decode cX0_deliver 1 = .ok (.iconst 0, 1) := dk_3 (dk_at dksX0_deliver_0 1 rfl rfl)
theorem dX0_deliver_2 : decode cX0_deliver 2 = .ok (.aload_n 0, 1) := dk_42 (dk_at dksX0_deliver_0 2 rfl rfl)
theorem dX0_deliver_3 : decode cX0_deliver 3 = .ok (.iload_n 1, 1) := dk_27 (dk_at dksX0_deliver_0 3 rfl rfl)
theorem dX0_deliver_4 : decode cX0_deliver 4 = .ok (.invokevirtual 88, 3) := dk_182 0 88 (dk_at dksX0_deliver_0 4 rfl rfl)
theorem dX0_deliver_7 : decode cX0_deliver 7 = .ok (.ifCond .eq 7, 3) := dk_153 0 7 (dk_at dksX0_deliver_0 7 rfl rfl)
theorem dX0_deliver_10 : decode cX0_deliver 10 = .ok (.lconst 1, 1) := dk_10 (dk_at dksX0_deliver_0 10 rfl rfl)
theorem dX0_deliver_11 : decode cX0_deliver 11 = .ok (.goto 4, 3) := dk_167 0 4 (dk_at dksX0_deliver_0 11 rfl rfl)
theorem dX0_deliver_14 : decode cX0_deliver 14 = .ok (.lconst 0, 1) := dk_9 (dk_at dksX0_deliver_0 14 rfl rfl)
theorem dX0_deliver_15 : decode cX0_deliver 15 = .ok (.lastore, 1) := dk_80 (dk_at dksX0_deliver_0 15 rfl rfl)
theorem dX0_deliver_16 : decode cX0_deliver 16 = .ok (.goto 9, 3) := dk_167 0 9 (dk_at dksX0_deliver_0 16 rfl rfl)
theorem dX0_deliver_19 : decode cX0_deliver 19 = .ok (.astore_n 3, 1) := dk_78 (dk_at dksX0_deliver_0 19 rfl rfl)
theorem dX0_deliver_20 : decode cX0_deliver 20 = .ok (.iconst 1, 1) := dk_4 (dk_at dksX0_deliver_0 20 rfl rfl)
theorem dX0_deliver_21 : decode cX0_deliver 21 = .ok (.ireturn, 1) := dk_172 (dk_at dksX0_deliver_0 21 rfl rfl)
theorem dX0_deliver_22 : decode cX0_deliver 22 = .ok (.astore_n 3, 1) := dk_78 (dk_at dksX0_deliver_0 22 rfl rfl)
theorem dX0_deliver_23 : decode cX0_deliver 23 = .ok (.iconst 2, 1) := dk_5 (dk_at dksX0_deliver_0 23 rfl rfl)
theorem dX0_deliver_24 : decode cX0_deliver 24 = .ok (.ireturn, 1) := dk_172 (dk_at dksX0_deliver_1 0 rfl rfl)
theorem dX0_deliver_25 : decode cX0_deliver 25 = .ok (.iconst 0, 1) := dk_3 (dk_at dksX0_deliver_1 1 rfl rfl)
theorem dX0_deliver_26 : decode cX0_deliver 26 = .ok (.ireturn, 1) := dk_172 (dk_at dksX0_deliver_1 2 rfl rfl)
abbrev cX0_stateOf : ByteArray := method_24_code
def yX0_stateOf : MethodName := ⟨RX0, "stateOf", "(LFoundrymark;I[J)I"⟩
def dkwX0_stateOf_0 : List UInt8 := [44, 3, 42, 27, 182, 0, 91, 133, 80, 167, 0, 6, 78, 4, 172, 3, 172]
abbrev dktX0_stateOf_0 : List UInt8 := dkwX0_stateOf_0 ++ []
theorem dksX0_stateOf_0 : cX0_stateOf.data.toList.drop 0 = dktX0_stateOf_0 := by decide +kernel
theorem dX0_stateOf_0 : decode cX0_stateOf 0 = .ok (.aload_n 2, 1) := dk_44 (dk_at dksX0_stateOf_0 0 rfl rfl)
theorem dX0_stateOf_1 : decode cX0_stateOf 1 = .ok (.iconst 0, 1) := dk_3 (dk_at dksX0_stateOf_0 1 rfl rfl)
theorem dX0_stateOf_2 : decode cX0_stateOf 2 = .ok (.aload_n 0, 1) := dk_42 (dk_at dksX0_stateOf_0 2 rfl rfl)
theorem dX0_stateOf_3 : decode cX0_stateOf 3 = .ok (.iload_n 1, 1) := dk_27 (dk_at dksX0_stateOf_0 3 rfl rfl)
theorem dX0_stateOf_4 : decode cX0_stateOf 4 = .ok (.invokevirtual 91, 3) := dk_182 0 91 (dk_at dksX0_stateOf_0 4 rfl rfl)
theorem dX0_stateOf_7 : decode cX0_stateOf 7 = .ok (.i2l, 1) := dk_133 (dk_at dksX0_stateOf_0 7 rfl rfl)
theorem dX0_stateOf_8 : decode cX0_stateOf 8 = .ok (.lastore, 1) := dk_80 (dk_at dksX0_stateOf_0 8 rfl rfl)
theorem dX0_stateOf_9 : decode cX0_stateOf 9 = .ok (.goto 6, 3) := dk_167 0 6 (dk_at dksX0_stateOf_0 9 rfl rfl)
theorem dX0_stateOf_12 : decode cX0_stateOf 12 = .ok (.astore_n 3, 1) := dk_78 (dk_at dksX0_stateOf_0 12 rfl rfl)
theorem dX0_stateOf_13 : decode cX0_stateOf 13 = .ok (.iconst 1, 1) := dk_4 (dk_at dksX0_stateOf_0 13 rfl rfl)
theorem dX0_stateOf_14 : decode cX0_stateOf 14 = .ok (.ireturn, 1) := dk_172 (dk_at dksX0_stateOf_0 14 rfl rfl)
theorem dX0_stateOf_15 : decode cX0_stateOf 15 = .ok (.iconst 0, 1) := dk_3 (dk_at dksX0_stateOf_0 15 rfl rfl)
theorem dX0_stateOf_16 : decode cX0_stateOf 16 = .ok (.ireturn, 1) := dk_172 (dk_at dksX0_stateOf_0 16 rfl rfl)
abbrev cX0_lotOf : ByteArray := method_25_code
def yX0_lotOf : MethodName := ⟨RX0, "lotOf", "(LFoundrymark;I[J)I"⟩
def dkwX0_lotOf_0 : List UInt8 := [44, 3, 42, 27, 182, 0, 94, 133, 80, 167, 0, 9, 78, 4, 172, 78, 5, 172, 3, 172]
abbrev dktX0_lotOf_0 : List UInt8 := dkwX0_lotOf_0 ++ []
theorem dksX0_lotOf_0 : cX0_lotOf.data.toList.drop 0 = dktX0_lotOf_0 := by decide +kernel
theorem dX0_lotOf_0 : decode cX0_lotOf 0 = .ok (.aload_n 2, 1) := dk_44 (dk_at dksX0_lotOf_0 0 rfl rfl)
theorem dX0_lotOf_1 : decode cX0_lotOf 1 = .ok (.iconst 0, 1) := dk_3 (dk_at dksX0_lotOf_0 1 rfl rfl)
theorem dX0_lotOf_2 : decode cX0_lotOf 2 = .ok (.aload_n 0, 1) := dk_42 (dk_at dksX0_lotOf_0 2 rfl rfl)
theorem dX0_lotOf_3 : decode cX0_lotOf 3 = .ok (.iload_n 1, 1) := dk_27 (dk_at dksX0_lotOf_0 3 rfl rfl)
theorem dX0_lotOf_4 : decode cX0_lotOf 4 = .ok (.invokevirtual 94, 3) := dk_182 0 94 (dk_at dksX0_lotOf_0 4 rfl rfl)
theorem dX0_lotOf_7 : decode cX0_lotOf 7 = .ok (.i2l, 1) := dk_133 (dk_at dksX0_lotOf_0 7 rfl rfl)
theorem dX0_lotOf_8 : decode cX0_lotOf 8 = .ok (.lastore, 1) := dk_80 (dk_at dksX0_lotOf_0 8 rfl rfl)
theorem dX0_lotOf_9 : decode cX0_lotOf 9 = .ok (.goto 9, 3) := dk_167 0 9 (dk_at dksX0_lotOf_0 9 rfl rfl)
theorem dX0_lotOf_12 : decode cX0_lotOf 12 = .ok (.astore_n 3, 1) := dk_78 (dk_at dksX0_lotOf_0 12 rfl rfl)
theorem dX0_lotOf_13 : decode cX0_lotOf 13 = .ok (.iconst 1, 1) := dk_4 (dk_at dksX0_lotOf_0 13 rfl rfl)
theorem dX0_lotOf_14 : decode cX0_lotOf 14 = .ok (.ireturn, 1) := dk_172 (dk_at dksX0_lotOf_0 14 rfl rfl)
theorem dX0_lotOf_15 : decode cX0_lotOf 15 = .ok (.astore_n 3, 1) := dk_78 (dk_at dksX0_lotOf_0 15 rfl rfl)
theorem dX0_lotOf_16 : decode cX0_lotOf 16 = .ok (.iconst 2, 1) := dk_5 (dk_at dksX0_lotOf_0 16 rfl rfl)
theorem dX0_lotOf_17 : decode cX0_lotOf 17 = .ok (.ireturn, 1) := dk_172 (dk_at dksX0_lotOf_0 17 rfl rfl)
theorem dX0_lotOf_18 : decode cX0_lotOf 18 = .ok (.iconst 0, 1) := dk_3 (dk_at dksX0_lotOf_0 18 rfl rfl)
theorem dX0_lotOf_19 : decode cX0_lotOf 19 = .ok (.ireturn, 1) := dk_172 (dk_at dksX0_lotOf_0 19 rfl rfl)
abbrev cX0_finishedAt : ByteArray := method_26_code
def yX0_finishedAt : MethodName := ⟨RX0, "finishedAt", "(LFoundrymark;I[J)I"⟩
def dkwX0_finishedAt_0 : List UInt8 := [44, 3, 42, 27, 182, 0, 99, 133, 80, 167, 0, 9, 78, 4, 172, 78, 5, 172, 3, 172]
abbrev dktX0_finishedAt_0 : List UInt8 := dkwX0_finishedAt_0 ++ []
theorem dksX0_finishedAt_0 : cX0_finishedAt.data.toList.drop 0 = dktX0_finishedAt_0 := by decide +kernel
theorem dX0_finishedAt_0 : decode cX0_finishedAt 0 = .ok (.aload_n 2, 1) := dk_44 (dk_at dksX0_finishedAt_0 0 rfl rfl)
theorem dX0_finishedAt_1 : decode cX0_finishedAt 1 = .ok (.iconst 0, 1) := dk_3 (dk_at dksX0_finishedAt_0 1 rfl rfl)
theorem dX0_finishedAt_2 : decode cX0_finishedAt 2 = .ok (.aload_n 0, 1) := dk_42 (dk_at dksX0_finishedAt_0 2 rfl rfl)
theorem dX0_finishedAt_3 : decode cX0_finishedAt 3 = .ok (.iload_n 1, 1) := dk_27 (dk_at dksX0_finishedAt_0 3 rfl rfl)
theorem dX0_finishedAt_4 : decode cX0_finishedAt 4 = .ok (.invokevirtual 99, 3) := dk_182 0 99 (dk_at dksX0_finishedAt_0 4 rfl rfl)
theorem dX0_finishedAt_7 : decode cX0_finishedAt 7 = .ok (.i2l, 1) := dk_133 (dk_at dksX0_finishedAt_0 7 rfl rfl)
theorem dX0_finishedAt_8 : decode cX0_finishedAt 8 = .ok (.lastore, 1) := dk_80 (dk_at dksX0_finishedAt_0 8 rfl rfl)
theorem dX0_finishedAt_9 : decode cX0_finishedAt 9 = .ok (.goto 9, 3) := dk_167 0 9 (dk_at dksX0_finishedAt_0 9 rfl rfl)
theorem dX0_finishedAt_12 : decode cX0_finishedAt 12 = .ok (.astore_n 3, 1) := dk_78 (dk_at dksX0_finishedAt_0 12 rfl rfl)
theorem dX0_finishedAt_13 : decode cX0_finishedAt 13 = .ok (.iconst 1, 1) := dk_4 (dk_at dksX0_finishedAt_0 13 rfl rfl)
theorem dX0_finishedAt_14 : decode cX0_finishedAt 14 = .ok (.ireturn, 1) := dk_172 (dk_at dksX0_finishedAt_0 14 rfl rfl)
theorem dX0_finishedAt_15 : decode cX0_finishedAt 15 = .ok (.astore_n 3, 1) := dk_78 (dk_at dksX0_finishedAt_0 15 rfl rfl)
theorem dX0_finishedAt_16 : decode cX0_finishedAt 16 = .ok (.iconst 2, 1) := dk_5 (dk_at dksX0_finishedAt_0 16 rfl rfl)
theorem dX0_finishedAt_17 : decode cX0_finishedAt 17 = .ok (.ireturn, 1) := dk_172 (dk_at dksX0_finishedAt_0 17 rfl rfl)
theorem dX0_finishedAt_18 : decode cX0_finishedAt 18 = .ok (.iconst 0, 1) := dk_3 (dk_at dksX0_finishedAt_0 18 rfl rfl)
theorem dX0_finishedAt_19 : decode cX0_finishedAt 19 = .ok (.ireturn, 1) := dk_172 (dk_at dksX0_finishedAt_0 19 rfl rfl)
abbrev cX0_machineIs : ByteArray := method_27_code
def yX0_machineIs : MethodName := ⟨RX0, "machineIs", "(LFoundrymark;I[J)I"⟩
def dkwX0_machineIs_0 : List UInt8 := [44, 3, 42, 27, 182, 0, 102, 133, 80, 167, 0, 6, 78, 4, 172, 3, 172]
abbrev dktX0_machineIs_0 : List UInt8 := dkwX0_machineIs_0 ++ []
theorem dksX0_machineIs_0 : cX0_machineIs.data.toList.drop 0 = dktX0_machineIs_0 := by decide +kernel
theorem dX0_machineIs_0 : decode cX0_machineIs 0 = .ok (.aload_n 2, 1) := dk_44 (dk_at dksX0_machineIs_0 0 rfl rfl)
theorem dX0_machineIs_1 : decode cX0_machineIs 1 = .ok (.iconst 0, 1) := dk_3 (dk_at dksX0_machineIs_0 1 rfl rfl)
theorem dX0_machineIs_2 : decode cX0_machineIs 2 = .ok (.aload_n 0, 1) := dk_42 (dk_at dksX0_machineIs_0 2 rfl rfl)
theorem dX0_machineIs_3 : decode cX0_machineIs 3 = .ok (.iload_n 1, 1) := dk_27 (dk_at dksX0_machineIs_0 3 rfl rfl)
theorem dX0_machineIs_4 : decode cX0_machineIs 4 = .ok (.invokevirtual 102, 3) := dk_182 0 102 (dk_at dksX0_machineIs_0 4 rfl rfl)
theorem dX0_machineIs_7 : decode cX0_machineIs 7 = .ok (.i2l, 1) := dk_133 (dk_at dksX0_machineIs_0 7 rfl rfl)
theorem dX0_machineIs_8 : decode cX0_machineIs 8 = .ok (.lastore, 1) := dk_80 (dk_at dksX0_machineIs_0 8 rfl rfl)
theorem dX0_machineIs_9 : decode cX0_machineIs 9 = .ok (.goto 6, 3) := dk_167 0 6 (dk_at dksX0_machineIs_0 9 rfl rfl)
theorem dX0_machineIs_12 : decode cX0_machineIs 12 = .ok (.astore_n 3, 1) := dk_78 (dk_at dksX0_machineIs_0 12 rfl rfl)
theorem dX0_machineIs_13 : decode cX0_machineIs 13 = .ok (.iconst 1, 1) := dk_4 (dk_at dksX0_machineIs_0 13 rfl rfl)
theorem dX0_machineIs_14 : decode cX0_machineIs 14 = .ok (.ireturn, 1) := dk_172 (dk_at dksX0_machineIs_0 14 rfl rfl)
theorem dX0_machineIs_15 : decode cX0_machineIs 15 = .ok (.iconst 0, 1) := dk_3 (dk_at dksX0_machineIs_0 15 rfl rfl)
theorem dX0_machineIs_16 : decode cX0_machineIs 16 = .ok (.ireturn, 1) := dk_172 (dk_at dksX0_machineIs_0 16 rfl rfl)
abbrev cX0_wear : ByteArray := method_28_code
def yX0_wear : MethodName := ⟨RX0, "wear", "(LFoundrymark;I[J)I"⟩
def dkwX0_wear_0 : List UInt8 := [44, 3, 42, 27, 182, 0, 105, 133, 80, 167, 0, 6, 78, 4, 172, 3, 172]
abbrev dktX0_wear_0 : List UInt8 := dkwX0_wear_0 ++ []
theorem dksX0_wear_0 : cX0_wear.data.toList.drop 0 = dktX0_wear_0 := by decide +kernel
theorem dX0_wear_0 : decode cX0_wear 0 = .ok (.aload_n 2, 1) := dk_44 (dk_at dksX0_wear_0 0 rfl rfl)
theorem dX0_wear_1 : decode cX0_wear 1 = .ok (.iconst 0, 1) := dk_3 (dk_at dksX0_wear_0 1 rfl rfl)
theorem dX0_wear_2 : decode cX0_wear 2 = .ok (.aload_n 0, 1) := dk_42 (dk_at dksX0_wear_0 2 rfl rfl)
theorem dX0_wear_3 : decode cX0_wear 3 = .ok (.iload_n 1, 1) := dk_27 (dk_at dksX0_wear_0 3 rfl rfl)
theorem dX0_wear_4 : decode cX0_wear 4 = .ok (.invokevirtual 105, 3) := dk_182 0 105 (dk_at dksX0_wear_0 4 rfl rfl)
theorem dX0_wear_7 : decode cX0_wear 7 = .ok (.i2l, 1) := dk_133 (dk_at dksX0_wear_0 7 rfl rfl)
theorem dX0_wear_8 : decode cX0_wear 8 = .ok (.lastore, 1) := dk_80 (dk_at dksX0_wear_0 8 rfl rfl)
theorem dX0_wear_9 : decode cX0_wear 9 = .ok (.goto 6, 3) := dk_167 0 6 (dk_at dksX0_wear_0 9 rfl rfl)
theorem dX0_wear_12 : decode cX0_wear 12 = .ok (.astore_n 3, 1) := dk_78 (dk_at dksX0_wear_0 12 rfl rfl)
theorem dX0_wear_13 : decode cX0_wear 13 = .ok (.iconst 1, 1) := dk_4 (dk_at dksX0_wear_0 13 rfl rfl)
theorem dX0_wear_14 : decode cX0_wear 14 = .ok (.ireturn, 1) := dk_172 (dk_at dksX0_wear_0 14 rfl rfl)
theorem dX0_wear_15 : decode cX0_wear 15 = .ok (.iconst 0, 1) := dk_3 (dk_at dksX0_wear_0 15 rfl rfl)
theorem dX0_wear_16 : decode cX0_wear 16 = .ok (.ireturn, 1) := dk_172 (dk_at dksX0_wear_0 16 rfl rfl)
abbrev cX0_waiting : ByteArray := method_29_code
def yX0_waiting : MethodName := ⟨RX0, "waiting", "(LFoundrymark;I[J)I"⟩
def dkwX0_waiting_0 : List UInt8 := [44, 3, 42, 27, 182, 0, 108, 133, 80, 167, 0, 6, 78, 4, 172, 3, 172]
abbrev dktX0_waiting_0 : List UInt8 := dkwX0_waiting_0 ++ []
theorem dksX0_waiting_0 : cX0_waiting.data.toList.drop 0 = dktX0_waiting_0 := by decide +kernel
theorem dX0_waiting_0 : decode cX0_waiting 0 = .ok (.aload_n 2, 1) := dk_44 (dk_at dksX0_waiting_0 0 rfl rfl)
theorem dX0_waiting_1 : decode cX0_waiting 1 = .ok (.iconst 0, 1) := dk_3 (dk_at dksX0_waiting_0 1 rfl rfl)
theorem dX0_waiting_2 : decode cX0_waiting 2 = .ok (.aload_n 0, 1) := dk_42 (dk_at dksX0_waiting_0 2 rfl rfl)
theorem dX0_waiting_3 : decode cX0_waiting 3 = .ok (.iload_n 1, 1) := dk_27 (dk_at dksX0_waiting_0 3 rfl rfl)
theorem dX0_waiting_4 : decode cX0_waiting 4 = .ok (.invokevirtual 108, 3) := dk_182 0 108 (dk_at dksX0_waiting_0 4 rfl rfl)
theorem dX0_waiting_7 : decode cX0_waiting 7 = .ok (.i2l, 1) := dk_133 (dk_at dksX0_waiting_0 7 rfl rfl)
theorem dX0_waiting_8 : decode cX0_waiting 8 = .ok (.lastore, 1) := dk_80 (dk_at dksX0_waiting_0 8 rfl rfl)
theorem dX0_waiting_9 : decode cX0_waiting 9 = .ok (.goto 6, 3) := dk_167 0 6 (dk_at dksX0_waiting_0 9 rfl rfl)
theorem dX0_waiting_12 : decode cX0_waiting 12 = .ok (.astore_n 3, 1) := dk_78 (dk_at dksX0_waiting_0 12 rfl rfl)
theorem dX0_waiting_13 : decode cX0_waiting 13 = .ok (.iconst 1, 1) := dk_4 (dk_at dksX0_waiting_0 13 rfl rfl)
theorem dX0_waiting_14 : decode cX0_waiting 14 = .ok (.ireturn, 1) := dk_172 (dk_at dksX0_waiting_0 14 rfl rfl)
theorem dX0_waiting_15 : decode cX0_waiting 15 = .ok (.iconst 0, 1) := dk_3 (dk_at dksX0_waiting_0 15 rfl rfl)
theorem dX0_waiting_16 : decode cX0_waiting 16 = .ok (.ireturn, 1) := dk_172 (dk_at dksX0_waiting_0 16 rfl rfl)
abbrev cX0_isIn : ByteArray := method_30_code
def yX0_isIn : MethodName := ⟨RX0, "isIn", "(LFoundrymark;II[J)I"⟩
def dkwX0_isIn_1 : List UInt8 := [3, 172]
abbrev dktX0_isIn_1 : List UInt8 := dkwX0_isIn_1 ++ []
def dkwX0_isIn_0 : List UInt8 := [45, 3, 42, 27, 28, 182, 0, 111, 153, 0, 7, 10, 167, 0, 4, 9, 80, 167, 0, 7, 58, 4, 4, 172]
abbrev dktX0_isIn_0 : List UInt8 := dkwX0_isIn_0 ++ dktX0_isIn_1
theorem dksX0_isIn_0 : cX0_isIn.data.toList.drop 0 = dktX0_isIn_0 := by decide +kernel
theorem dksX0_isIn_1 : cX0_isIn.data.toList.drop 24 = dktX0_isIn_1 := dk_seg dksX0_isIn_0 24 rfl rfl
theorem dX0_isIn_0 : decode cX0_isIn 0 = .ok (.aload_n 3, 1) := dk_45 (dk_at dksX0_isIn_0 0 rfl rfl)
theorem dX0_isIn_1 : decode cX0_isIn 1 = .ok (.iconst 0, 1) := dk_3 (dk_at dksX0_isIn_0 1 rfl rfl)
theorem dX0_isIn_2 : decode cX0_isIn 2 = .ok (.aload_n 0, 1) := dk_42 (dk_at dksX0_isIn_0 2 rfl rfl)
theorem dX0_isIn_3 : decode cX0_isIn 3 = .ok (.iload_n 1, 1) := dk_27 (dk_at dksX0_isIn_0 3 rfl rfl)
theorem dX0_isIn_4 : decode cX0_isIn 4 = .ok (.iload_n 2, 1) := dk_28 (dk_at dksX0_isIn_0 4 rfl rfl)
theorem dX0_isIn_5 : decode cX0_isIn 5 = .ok (.invokevirtual 111, 3) := dk_182 0 111 (dk_at dksX0_isIn_0 5 rfl rfl)
theorem dX0_isIn_8 : decode cX0_isIn 8 = .ok (.ifCond .eq 7, 3) := dk_153 0 7 (dk_at dksX0_isIn_0 8 rfl rfl)
theorem dX0_isIn_11 : decode cX0_isIn 11 = .ok (.lconst 1, 1) := dk_10 (dk_at dksX0_isIn_0 11 rfl rfl)
theorem dX0_isIn_12 : decode cX0_isIn 12 = .ok (.goto 4, 3) := dk_167 0 4 (dk_at dksX0_isIn_0 12 rfl rfl)
theorem dX0_isIn_15 : decode cX0_isIn 15 = .ok (.lconst 0, 1) := dk_9 (dk_at dksX0_isIn_0 15 rfl rfl)
theorem dX0_isIn_16 : decode cX0_isIn 16 = .ok (.lastore, 1) := dk_80 (dk_at dksX0_isIn_0 16 rfl rfl)
theorem dX0_isIn_17 : decode cX0_isIn 17 = .ok (.goto 7, 3) := dk_167 0 7 (dk_at dksX0_isIn_0 17 rfl rfl)
theorem dX0_isIn_20 : decode cX0_isIn 20 = .ok (.astore 4, 2) := dk_58 4 (dk_at dksX0_isIn_0 20 rfl rfl)
theorem dX0_isIn_22 : decode cX0_isIn 22 = .ok (.iconst 1, 1) := dk_4 (dk_at dksX0_isIn_0 22 rfl rfl)
theorem dX0_isIn_23 : decode cX0_isIn 23 = .ok (.ireturn, 1) := dk_172 (dk_at dksX0_isIn_0 23 rfl rfl)
theorem dX0_isIn_24 : decode cX0_isIn 24 = .ok (.iconst 0, 1) := dk_3 (dk_at dksX0_isIn_1 0 rfl rfl)
theorem dX0_isIn_25 : decode cX0_isIn 25 = .ok (.ireturn, 1) := dk_172 (dk_at dksX0_isIn_1 1 rfl rfl)
abbrev cX0_touched : ByteArray := method_31_code
def yX0_touched : MethodName := ⟨RX0, "touched", "(LFoundrymark;I[J)I"⟩
def dkwX0_touched_0 : List UInt8 := [44, 3, 42, 27, 182, 0, 114, 133, 80, 167, 0, 6, 78, 4, 172, 3, 172]
abbrev dktX0_touched_0 : List UInt8 := dkwX0_touched_0 ++ []
theorem dksX0_touched_0 : cX0_touched.data.toList.drop 0 = dktX0_touched_0 := by decide +kernel
theorem dX0_touched_0 : decode cX0_touched 0 = .ok (.aload_n 2, 1) := dk_44 (dk_at dksX0_touched_0 0 rfl rfl)
theorem dX0_touched_1 : decode cX0_touched 1 = .ok (.iconst 0, 1) := dk_3 (dk_at dksX0_touched_0 1 rfl rfl)
theorem dX0_touched_2 : decode cX0_touched 2 = .ok (.aload_n 0, 1) := dk_42 (dk_at dksX0_touched_0 2 rfl rfl)
theorem dX0_touched_3 : decode cX0_touched 3 = .ok (.iload_n 1, 1) := dk_27 (dk_at dksX0_touched_0 3 rfl rfl)
theorem dX0_touched_4 : decode cX0_touched 4 = .ok (.invokevirtual 114, 3) := dk_182 0 114 (dk_at dksX0_touched_0 4 rfl rfl)
theorem dX0_touched_7 : decode cX0_touched 7 = .ok (.i2l, 1) := dk_133 (dk_at dksX0_touched_0 7 rfl rfl)
theorem dX0_touched_8 : decode cX0_touched 8 = .ok (.lastore, 1) := dk_80 (dk_at dksX0_touched_0 8 rfl rfl)
theorem dX0_touched_9 : decode cX0_touched 9 = .ok (.goto 6, 3) := dk_167 0 6 (dk_at dksX0_touched_0 9 rfl rfl)
theorem dX0_touched_12 : decode cX0_touched 12 = .ok (.astore_n 3, 1) := dk_78 (dk_at dksX0_touched_0 12 rfl rfl)
theorem dX0_touched_13 : decode cX0_touched 13 = .ok (.iconst 1, 1) := dk_4 (dk_at dksX0_touched_0 13 rfl rfl)
theorem dX0_touched_14 : decode cX0_touched 14 = .ok (.ireturn, 1) := dk_172 (dk_at dksX0_touched_0 14 rfl rfl)
theorem dX0_touched_15 : decode cX0_touched 15 = .ok (.iconst 0, 1) := dk_3 (dk_at dksX0_touched_0 15 rfl rfl)
theorem dX0_touched_16 : decode cX0_touched 16 = .ok (.ireturn, 1) := dk_172 (dk_at dksX0_touched_0 16 rfl rfl)
abbrev cX0_lotsIn : ByteArray := method_32_code
def yX0_lotsIn : MethodName := ⟨RX0, "lotsIn", "(LFoundrymark;I[J)I"⟩
def dkwX0_lotsIn_0 : List UInt8 := [44, 3, 42, 27, 182, 0, 117, 133, 80, 167, 0, 6, 78, 4, 172, 3, 172]
abbrev dktX0_lotsIn_0 : List UInt8 := dkwX0_lotsIn_0 ++ []
theorem dksX0_lotsIn_0 : cX0_lotsIn.data.toList.drop 0 = dktX0_lotsIn_0 := by decide +kernel
theorem dX0_lotsIn_0 : decode cX0_lotsIn 0 = .ok (.aload_n 2, 1) := dk_44 (dk_at dksX0_lotsIn_0 0 rfl rfl)
theorem dX0_lotsIn_1 : decode cX0_lotsIn 1 = .ok (.iconst 0, 1) := dk_3 (dk_at dksX0_lotsIn_0 1 rfl rfl)
theorem dX0_lotsIn_2 : decode cX0_lotsIn 2 = .ok (.aload_n 0, 1) := dk_42 (dk_at dksX0_lotsIn_0 2 rfl rfl)
theorem dX0_lotsIn_3 : decode cX0_lotsIn 3 = .ok (.iload_n 1, 1) := dk_27 (dk_at dksX0_lotsIn_0 3 rfl rfl)
theorem dX0_lotsIn_4 : decode cX0_lotsIn 4 = .ok (.invokevirtual 117, 3) := dk_182 0 117 (dk_at dksX0_lotsIn_0 4 rfl rfl)
theorem dX0_lotsIn_7 : decode cX0_lotsIn 7 = .ok (.i2l, 1) := dk_133 (dk_at dksX0_lotsIn_0 7 rfl rfl)
theorem dX0_lotsIn_8 : decode cX0_lotsIn 8 = .ok (.lastore, 1) := dk_80 (dk_at dksX0_lotsIn_0 8 rfl rfl)
theorem dX0_lotsIn_9 : decode cX0_lotsIn 9 = .ok (.goto 6, 3) := dk_167 0 6 (dk_at dksX0_lotsIn_0 9 rfl rfl)
theorem dX0_lotsIn_12 : decode cX0_lotsIn 12 = .ok (.astore_n 3, 1) := dk_78 (dk_at dksX0_lotsIn_0 12 rfl rfl)
theorem dX0_lotsIn_13 : decode cX0_lotsIn 13 = .ok (.iconst 1, 1) := dk_4 (dk_at dksX0_lotsIn_0 13 rfl rfl)
theorem dX0_lotsIn_14 : decode cX0_lotsIn 14 = .ok (.ireturn, 1) := dk_172 (dk_at dksX0_lotsIn_0 14 rfl rfl)
theorem dX0_lotsIn_15 : decode cX0_lotsIn 15 = .ok (.iconst 0, 1) := dk_3 (dk_at dksX0_lotsIn_0 15 rfl rfl)
theorem dX0_lotsIn_16 : decode cX0_lotsIn 16 = .ok (.ireturn, 1) := dk_172 (dk_at dksX0_lotsIn_0 16 rfl rfl)
abbrev cX0_deliveredCost : ByteArray := method_33_code
def yX0_deliveredCost : MethodName := ⟨RX0, "deliveredCost", "(LFoundrymark;I[J)I"⟩
def dkwX0_deliveredCost_0 : List UInt8 := [44, 3, 42, 27, 182, 0, 120, 80, 167, 0, 9, 78, 4, 172, 78, 5, 172, 3, 172]
abbrev dktX0_deliveredCost_0 : List UInt8 := dkwX0_deliveredCost_0 ++ []
theorem dksX0_deliveredCost_0 : cX0_deliveredCost.data.toList.drop 0 = dktX0_deliveredCost_0 := by decide +kernel
theorem dX0_deliveredCost_0 : decode cX0_deliveredCost 0 = .ok (.aload_n 2, 1) := dk_44 (dk_at dksX0_deliveredCost_0 0 rfl rfl)
theorem dX0_deliveredCost_1 : decode cX0_deliveredCost 1 = .ok (.iconst 0, 1) := dk_3 (dk_at dksX0_deliveredCost_0 1 rfl rfl)
theorem dX0_deliveredCost_2 : decode cX0_deliveredCost 2 = .ok (.aload_n 0, 1) := dk_42 (dk_at dksX0_deliveredCost_0 2 rfl rfl)
theorem dX0_deliveredCost_3 : decode cX0_deliveredCost 3 = .ok (.iload_n 1, 1) := dk_27 (dk_at dksX0_deliveredCost_0 3 rfl rfl)
theorem dX0_deliveredCost_4 : decode cX0_deliveredCost 4 = .ok (.invokevirtual 120, 3) := dk_182 0 120 (dk_at dksX0_deliveredCost_0 4 rfl rfl)
theorem dX0_deliveredCost_7 : decode cX0_deliveredCost 7 = .ok (.lastore, 1) := dk_80 (dk_at dksX0_deliveredCost_0 7 rfl rfl)
theorem dX0_deliveredCost_8 : decode cX0_deliveredCost 8 = .ok (.goto 9, 3) := dk_167 0 9 (dk_at dksX0_deliveredCost_0 8 rfl rfl)
theorem dX0_deliveredCost_11 : decode cX0_deliveredCost 11 = .ok (.astore_n 3, 1) := dk_78 (dk_at dksX0_deliveredCost_0 11 rfl rfl)
theorem dX0_deliveredCost_12 : decode cX0_deliveredCost 12 = .ok (.iconst 1, 1) := dk_4 (dk_at dksX0_deliveredCost_0 12 rfl rfl)
theorem dX0_deliveredCost_13 : decode cX0_deliveredCost 13 = .ok (.ireturn, 1) := dk_172 (dk_at dksX0_deliveredCost_0 13 rfl rfl)
theorem dX0_deliveredCost_14 : decode cX0_deliveredCost 14 = .ok (.astore_n 3, 1) := dk_78 (dk_at dksX0_deliveredCost_0 14 rfl rfl)
theorem dX0_deliveredCost_15 : decode cX0_deliveredCost 15 = .ok (.iconst 2, 1) := dk_5 (dk_at dksX0_deliveredCost_0 15 rfl rfl)
theorem dX0_deliveredCost_16 : decode cX0_deliveredCost 16 = .ok (.ireturn, 1) := dk_172 (dk_at dksX0_deliveredCost_0 16 rfl rfl)
theorem dX0_deliveredCost_17 : decode cX0_deliveredCost 17 = .ok (.iconst 0, 1) := dk_3 (dk_at dksX0_deliveredCost_0 17 rfl rfl)
theorem dX0_deliveredCost_18 : decode cX0_deliveredCost 18 = .ok (.ireturn, 1) := dk_172 (dk_at dksX0_deliveredCost_0 18 rfl rfl)
abbrev cX0_inTimeShare : ByteArray := method_34_code
def yX0_inTimeShare : MethodName := ⟨RX0, "inTimeShare", "(LFoundrymark;[D)I"⟩
def dkwX0_inTimeShare_0 : List UInt8 := [43, 3, 42, 182, 0, 123, 141, 82, 167, 0, 6, 77, 4, 172, 3, 172]
abbrev dktX0_inTimeShare_0 : List UInt8 := dkwX0_inTimeShare_0 ++ []
theorem dksX0_inTimeShare_0 : cX0_inTimeShare.data.toList.drop 0 = dktX0_inTimeShare_0 := by decide +kernel
theorem dX0_inTimeShare_0 : decode cX0_inTimeShare 0 = .ok (.aload_n 1, 1) := dk_43 (dk_at dksX0_inTimeShare_0 0 rfl rfl)
theorem dX0_inTimeShare_1 : decode cX0_inTimeShare 1 = .ok (.iconst 0, 1) := dk_3 (dk_at dksX0_inTimeShare_0 1 rfl rfl)
theorem dX0_inTimeShare_2 : decode cX0_inTimeShare 2 = .ok (.aload_n 0, 1) := dk_42 (dk_at dksX0_inTimeShare_0 2 rfl rfl)
theorem dX0_inTimeShare_3 : decode cX0_inTimeShare 3 = .ok (.invokevirtual 123, 3) := dk_182 0 123 (dk_at dksX0_inTimeShare_0 3 rfl rfl)
theorem dX0_inTimeShare_6 : decode cX0_inTimeShare 6 = .ok (.f2d, 1) := dk_141 (dk_at dksX0_inTimeShare_0 6 rfl rfl)
theorem dX0_inTimeShare_7 : decode cX0_inTimeShare 7 = .ok (.dastore, 1) := dk_82 (dk_at dksX0_inTimeShare_0 7 rfl rfl)
theorem dX0_inTimeShare_8 : decode cX0_inTimeShare 8 = .ok (.goto 6, 3) := dk_167 0 6 (dk_at dksX0_inTimeShare_0 8 rfl rfl)
theorem dX0_inTimeShare_11 : decode cX0_inTimeShare 11 = .ok (.astore_n 2, 1) := dk_77 (dk_at dksX0_inTimeShare_0 11 rfl rfl)
theorem dX0_inTimeShare_12 : decode cX0_inTimeShare 12 = .ok (.iconst 1, 1) := dk_4 (dk_at dksX0_inTimeShare_0 12 rfl rfl)
theorem dX0_inTimeShare_13 : decode cX0_inTimeShare 13 = .ok (.ireturn, 1) := dk_172 (dk_at dksX0_inTimeShare_0 13 rfl rfl)
theorem dX0_inTimeShare_14 : decode cX0_inTimeShare 14 = .ok (.iconst 0, 1) := dk_3 (dk_at dksX0_inTimeShare_0 14 rfl rfl)
theorem dX0_inTimeShare_15 : decode cX0_inTimeShare 15 = .ok (.ireturn, 1) := dk_172 (dk_at dksX0_inTimeShare_0 15 rfl rfl)
abbrev cX0_meanBusy : ByteArray := method_35_code
def yX0_meanBusy : MethodName := ⟨RX0, "meanBusy", "(LFoundrymark;[D)I"⟩
def dkwX0_meanBusy_0 : List UInt8 := [43, 3, 42, 182, 0, 129, 82, 167, 0, 6, 77, 4, 172, 3, 172]
abbrev dktX0_meanBusy_0 : List UInt8 := dkwX0_meanBusy_0 ++ []
theorem dksX0_meanBusy_0 : cX0_meanBusy.data.toList.drop 0 = dktX0_meanBusy_0 := by decide +kernel
theorem dX0_meanBusy_0 : decode cX0_meanBusy 0 = .ok (.aload_n 1, 1) := dk_43 (dk_at dksX0_meanBusy_0 0 rfl rfl)
theorem dX0_meanBusy_1 : decode cX0_meanBusy 1 = .ok (.iconst 0, 1) := dk_3 (dk_at dksX0_meanBusy_0 1 rfl rfl)
theorem dX0_meanBusy_2 : decode cX0_meanBusy 2 = .ok (.aload_n 0, 1) := dk_42 (dk_at dksX0_meanBusy_0 2 rfl rfl)
theorem dX0_meanBusy_3 : decode cX0_meanBusy 3 = .ok (.invokevirtual 129, 3) := dk_182 0 129 (dk_at dksX0_meanBusy_0 3 rfl rfl)
theorem dX0_meanBusy_6 : decode cX0_meanBusy 6 = .ok (.dastore, 1) := dk_82 (dk_at dksX0_meanBusy_0 6 rfl rfl)
theorem dX0_meanBusy_7 : decode cX0_meanBusy 7 = .ok (.goto 6, 3) := dk_167 0 6 (dk_at dksX0_meanBusy_0 7 rfl rfl)
theorem dX0_meanBusy_10 : decode cX0_meanBusy 10 = .ok (.astore_n 2, 1) := dk_77 (dk_at dksX0_meanBusy_0 10 rfl rfl)
theorem dX0_meanBusy_11 : decode cX0_meanBusy 11 = .ok (.iconst 1, 1) := dk_4 (dk_at dksX0_meanBusy_0 11 rfl rfl)
theorem dX0_meanBusy_12 : decode cX0_meanBusy 12 = .ok (.ireturn, 1) := dk_172 (dk_at dksX0_meanBusy_0 12 rfl rfl)
theorem dX0_meanBusy_13 : decode cX0_meanBusy 13 = .ok (.iconst 0, 1) := dk_3 (dk_at dksX0_meanBusy_0 13 rfl rfl)
theorem dX0_meanBusy_14 : decode cX0_meanBusy 14 = .ok (.ireturn, 1) := dk_172 (dk_at dksX0_meanBusy_0 14 rfl rfl)
theorem q39 : (Jvm.Cond.initialized "FoundrymarkLaw") ∈ lw_all := lw_g (lw_at lw_m1 0 rfl) rfl
theorem q90 : (Jvm.Cond.classLink "FoundrymarkLaw" (8 : Nat) "Foundrymark") ∈ lw_all := lw_g (lw_at lw_m1 51 rfl) rfl
theorem q92 : (Jvm.Cond.methodLink "FoundrymarkLaw" (133 : Nat) ({ cls := "Foundrymark", name := "<init>", desc := "()V" } : Jvm.MethodName)) ∈ lw_all := lw_g (lw_at lw_m1 53 rfl) rfl
theorem q177 : (Jvm.Cond.methodLink "FoundrymarkLaw" (180 : Nat) ({ cls := "Foundrymark", name := "lots", desc := "()I" } : Jvm.MethodName)) ∈ lw_all := lw_g (lw_at lw_m1 138 rfl) rfl
theorem q185 : (Jvm.Cond.methodLink "FoundrymarkLaw" (254 : Nat) ({ cls := "Foundrymark", name := "isSound", desc := "()Z" } : Jvm.MethodName)) ∈ lw_all := lw_g (lw_at lw_m1 146 rfl) rfl
theorem q399 : (Jvm.Cond.methodLink "FoundrymarkLaw" (137 : Nat) ({ cls := "FoundrymarkLaw", name := "addMachine", desc := "(LFoundrymark;IIII[J)I" } : Jvm.MethodName)) ∈ lw_all := lw_g (lw_at lw_m2 120 rfl) rfl
theorem q400 : (Jvm.Cond.static ({ cls := "FoundrymarkLaw", name := "addMachine", desc := "(LFoundrymark;IIII[J)I" } : Jvm.MethodName)) ∈ lw_all := lw_g (lw_at lw_m2 121 rfl) rfl
theorem q401 : (Jvm.Cond.codeWith ({ cls := "FoundrymarkLaw", name := "addMachine", desc := "(LFoundrymark;IIII[J)I" } : Jvm.MethodName) method_3_code (7 : Nat) (Option.some Jvm.ClassFile.FieldType.int) [((0 : Nat), (14 : Nat), (17 : Nat), (13 : Nat)), ((0 : Nat), (14 : Nat), (21 : Nat), (15 : Nat))]) ∈ lw_all := lw_g (lw_at lw_m2 122 rfl) rfl
theorem q402 : (Jvm.Cond.classLink "FoundrymarkLaw" (13 : Nat) "java/lang/IllegalArgumentException") ∈ lw_all := lw_g (lw_at lw_m2 123 rfl) rfl
theorem q403 : (Jvm.Cond.classLink "FoundrymarkLaw" (15 : Nat) "java/lang/IllegalStateException") ∈ lw_all := lw_g (lw_at lw_m2 124 rfl) rfl
theorem q404 : (Jvm.Cond.methodLink "FoundrymarkLaw" (7 : Nat) ({ cls := "Foundrymark", name := "addMachine", desc := "(IIII)I" } : Jvm.MethodName)) ∈ lw_all := lw_g (lw_at lw_m2 125 rfl) rfl
theorem q603 : (Jvm.Cond.methodLink "FoundrymarkLaw" (147 : Nat) ({ cls := "FoundrymarkLaw", name := "addPart", desc := "(LFoundrymark;ZI[J)I" } : Jvm.MethodName)) ∈ lw_all := lw_g (lw_at lw_m3 84 rfl) rfl
theorem q604 : (Jvm.Cond.static ({ cls := "FoundrymarkLaw", name := "addPart", desc := "(LFoundrymark;ZI[J)I" } : Jvm.MethodName)) ∈ lw_all := lw_g (lw_at lw_m3 85 rfl) rfl
theorem q605 : (Jvm.Cond.codeWith ({ cls := "FoundrymarkLaw", name := "addPart", desc := "(LFoundrymark;ZI[J)I" } : Jvm.MethodName) method_4_code (5 : Nat) (Option.some Jvm.ClassFile.FieldType.int) [((0 : Nat), (10 : Nat), (13 : Nat), (13 : Nat)), ((0 : Nat), (10 : Nat), (17 : Nat), (15 : Nat))]) ∈ lw_all := lw_g (lw_at lw_m3 86 rfl) rfl
theorem q606 : (Jvm.Cond.methodLink "FoundrymarkLaw" (17 : Nat) ({ cls := "Foundrymark", name := "addPart", desc := "(ZI)I" } : Jvm.MethodName)) ∈ lw_all := lw_g (lw_at lw_m3 87 rfl) rfl
theorem q672 : (Jvm.Cond.methodLink "FoundrymarkLaw" (151 : Nat) ({ cls := "FoundrymarkLaw", name := "addComponent", desc := "(LFoundrymark;IIII[J)I" } : Jvm.MethodName)) ∈ lw_all := lw_g (lw_at lw_m3 153 rfl) rfl
theorem q673 : (Jvm.Cond.static ({ cls := "FoundrymarkLaw", name := "addComponent", desc := "(LFoundrymark;IIII[J)I" } : Jvm.MethodName)) ∈ lw_all := lw_g (lw_at lw_m3 154 rfl) rfl
theorem q674 : (Jvm.Cond.codeWith ({ cls := "FoundrymarkLaw", name := "addComponent", desc := "(LFoundrymark;IIII[J)I" } : Jvm.MethodName) method_5_code (7 : Nat) (Option.some Jvm.ClassFile.FieldType.int) [((0 : Nat), (14 : Nat), (17 : Nat), (24 : Nat)), ((0 : Nat), (14 : Nat), (21 : Nat), (26 : Nat)), ((0 : Nat), (14 : Nat), (25 : Nat), (13 : Nat)), ((0 : Nat), (14 : Nat), (29 : Nat), (15 : Nat))]) ∈ lw_all := lw_g (lw_at lw_m3 155 rfl) rfl
theorem q675 : (Jvm.Cond.classLink "FoundrymarkLaw" (24 : Nat) "java/lang/IndexOutOfBoundsException") ∈ lw_all := lw_g (lw_at lw_m3 156 rfl) rfl
theorem q708 : (Jvm.Cond.classLink "FoundrymarkLaw" (26 : Nat) "java/lang/UnsupportedOperationException") ∈ lw_all := lw_g (lw_at lw_m3 189 rfl) rfl
theorem q709 : (Jvm.Cond.methodLink "FoundrymarkLaw" (21 : Nat) ({ cls := "Foundrymark", name := "addComponent", desc := "(IIII)I" } : Jvm.MethodName)) ∈ lw_all := lw_g (lw_at lw_m3 190 rfl) rfl
theorem q754 : (Jvm.Cond.methodLink "FoundrymarkLaw" (154 : Nat) ({ cls := "FoundrymarkLaw", name := "addOperation", desc := "(LFoundrymark;IIII[J)I" } : Jvm.MethodName)) ∈ lw_all := lw_g (lw_at lw_m3 235 rfl) rfl
theorem q755 : (Jvm.Cond.static ({ cls := "FoundrymarkLaw", name := "addOperation", desc := "(LFoundrymark;IIII[J)I" } : Jvm.MethodName)) ∈ lw_all := lw_g (lw_at lw_m3 236 rfl) rfl
theorem q756 : (Jvm.Cond.codeWith ({ cls := "FoundrymarkLaw", name := "addOperation", desc := "(LFoundrymark;IIII[J)I" } : Jvm.MethodName) method_6_code (7 : Nat) (Option.some Jvm.ClassFile.FieldType.int) [((0 : Nat), (14 : Nat), (17 : Nat), (24 : Nat)), ((0 : Nat), (14 : Nat), (21 : Nat), (26 : Nat)), ((0 : Nat), (14 : Nat), (25 : Nat), (13 : Nat)), ((0 : Nat), (14 : Nat), (29 : Nat), (15 : Nat))]) ∈ lw_all := lw_g (lw_at lw_m3 237 rfl) rfl
theorem q757 : (Jvm.Cond.methodLink "FoundrymarkLaw" (28 : Nat) ({ cls := "Foundrymark", name := "addOperation", desc := "(IIII)I" } : Jvm.MethodName)) ∈ lw_all := lw_g (lw_at lw_m3 238 rfl) rfl
theorem q784 : (Jvm.Cond.methodLink "FoundrymarkLaw" (157 : Nat) ({ cls := "FoundrymarkLaw", name := "receive", desc := "(LFoundrymark;IIIII[J)I" } : Jvm.MethodName)) ∈ lw_all := lw_g (lw_at lw_m4 25 rfl) rfl
theorem q785 : (Jvm.Cond.static ({ cls := "FoundrymarkLaw", name := "receive", desc := "(LFoundrymark;IIIII[J)I" } : Jvm.MethodName)) ∈ lw_all := lw_g (lw_at lw_m4 26 rfl) rfl
theorem q786 : (Jvm.Cond.codeWith ({ cls := "FoundrymarkLaw", name := "receive", desc := "(LFoundrymark;IIIII[J)I" } : Jvm.MethodName) method_7_code (8 : Nat) (Option.some Jvm.ClassFile.FieldType.int) [((0 : Nat), (16 : Nat), (19 : Nat), (24 : Nat)), ((0 : Nat), (16 : Nat), (23 : Nat), (26 : Nat)), ((0 : Nat), (16 : Nat), (27 : Nat), (13 : Nat)), ((0 : Nat), (16 : Nat), (31 : Nat), (15 : Nat))]) ∈ lw_all := lw_g (lw_at lw_m4 27 rfl) rfl
theorem q787 : (Jvm.Cond.methodLink "FoundrymarkLaw" (31 : Nat) ({ cls := "Foundrymark", name := "receive", desc := "(IIIII)I" } : Jvm.MethodName)) ∈ lw_all := lw_g (lw_at lw_m4 28 rfl) rfl
theorem q888 : (Jvm.Cond.methodLink "FoundrymarkLaw" (161 : Nat) ({ cls := "FoundrymarkLaw", name := "rule", desc := "(LFoundrymark;I[J)I" } : Jvm.MethodName)) ∈ lw_all := lw_g (lw_at lw_m4 129 rfl) rfl
theorem q889 : (Jvm.Cond.static ({ cls := "FoundrymarkLaw", name := "rule", desc := "(LFoundrymark;I[J)I" } : Jvm.MethodName)) ∈ lw_all := lw_g (lw_at lw_m4 130 rfl) rfl
theorem q890 : (Jvm.Cond.codeWith ({ cls := "FoundrymarkLaw", name := "rule", desc := "(LFoundrymark;I[J)I" } : Jvm.MethodName) method_8_code (4 : Nat) (Option.some Jvm.ClassFile.FieldType.int) [((0 : Nat), (9 : Nat), (12 : Nat), (24 : Nat))]) ∈ lw_all := lw_g (lw_at lw_m4 131 rfl) rfl
theorem q891 : (Jvm.Cond.methodLink "FoundrymarkLaw" (35 : Nat) ({ cls := "Foundrymark", name := "rule", desc := "(I)C" } : Jvm.MethodName)) ∈ lw_all := lw_g (lw_at lw_m4 132 rfl) rfl
theorem q895 : (Jvm.Cond.methodLink "FoundrymarkLaw" (165 : Nat) ({ cls := "FoundrymarkLaw", name := "hold", desc := "(LFoundrymark;IZ[J)I" } : Jvm.MethodName)) ∈ lw_all := lw_g (lw_at lw_m4 136 rfl) rfl
theorem q896 : (Jvm.Cond.static ({ cls := "FoundrymarkLaw", name := "hold", desc := "(LFoundrymark;IZ[J)I" } : Jvm.MethodName)) ∈ lw_all := lw_g (lw_at lw_m4 137 rfl) rfl
theorem q897 : (Jvm.Cond.codeWith ({ cls := "FoundrymarkLaw", name := "hold", desc := "(LFoundrymark;IZ[J)I" } : Jvm.MethodName) method_9_code (5 : Nat) (Option.some Jvm.ClassFile.FieldType.int) [((0 : Nat), (10 : Nat), (13 : Nat), (24 : Nat))]) ∈ lw_all := lw_g (lw_at lw_m4 138 rfl) rfl
theorem q898 : (Jvm.Cond.methodLink "FoundrymarkLaw" (39 : Nat) ({ cls := "Foundrymark", name := "hold", desc := "(IZ)I" } : Jvm.MethodName)) ∈ lw_all := lw_g (lw_at lw_m4 139 rfl) rfl
theorem q913 : (Jvm.Cond.methodLink "FoundrymarkLaw" (169 : Nat) ({ cls := "FoundrymarkLaw", name := "isHeld", desc := "(LFoundrymark;I[J)I" } : Jvm.MethodName)) ∈ lw_all := lw_g (lw_at lw_m4 154 rfl) rfl
theorem q914 : (Jvm.Cond.static ({ cls := "FoundrymarkLaw", name := "isHeld", desc := "(LFoundrymark;I[J)I" } : Jvm.MethodName)) ∈ lw_all := lw_g (lw_at lw_m4 155 rfl) rfl
theorem q915 : (Jvm.Cond.codeWith ({ cls := "FoundrymarkLaw", name := "isHeld", desc := "(LFoundrymark;I[J)I" } : Jvm.MethodName) method_10_code (4 : Nat) (Option.some Jvm.ClassFile.FieldType.int) [((0 : Nat), (16 : Nat), (19 : Nat), (24 : Nat))]) ∈ lw_all := lw_g (lw_at lw_m4 156 rfl) rfl
theorem q916 : (Jvm.Cond.methodLink "FoundrymarkLaw" (43 : Nat) ({ cls := "Foundrymark", name := "isHeld", desc := "(I)Z" } : Jvm.MethodName)) ∈ lw_all := lw_g (lw_at lw_m4 157 rfl) rfl
theorem q920 : (Jvm.Cond.methodLink "FoundrymarkLaw" (172 : Nat) ({ cls := "FoundrymarkLaw", name := "setChart", desc := "(LFoundrymark;III[J)I" } : Jvm.MethodName)) ∈ lw_all := lw_g (lw_at lw_m4 161 rfl) rfl
theorem q921 : (Jvm.Cond.static ({ cls := "FoundrymarkLaw", name := "setChart", desc := "(LFoundrymark;III[J)I" } : Jvm.MethodName)) ∈ lw_all := lw_g (lw_at lw_m4 162 rfl) rfl
theorem q922 : (Jvm.Cond.codeWith ({ cls := "FoundrymarkLaw", name := "setChart", desc := "(LFoundrymark;III[J)I" } : Jvm.MethodName) method_11_code (6 : Nat) (Option.some Jvm.ClassFile.FieldType.int) [((0 : Nat), (12 : Nat), (15 : Nat), (24 : Nat)), ((0 : Nat), (12 : Nat), (19 : Nat), (13 : Nat))]) ∈ lw_all := lw_g (lw_at lw_m4 163 rfl) rfl
theorem q923 : (Jvm.Cond.methodLink "FoundrymarkLaw" (47 : Nat) ({ cls := "Foundrymark", name := "setChart", desc := "(III)I" } : Jvm.MethodName)) ∈ lw_all := lw_g (lw_at lw_m4 164 rfl) rfl
theorem q927 : (Jvm.Cond.methodLink "FoundrymarkLaw" (176 : Nat) ({ cls := "FoundrymarkLaw", name := "measure", desc := "(LFoundrymark;II[J)I" } : Jvm.MethodName)) ∈ lw_all := lw_g (lw_at lw_m4 168 rfl) rfl
theorem q928 : (Jvm.Cond.static ({ cls := "FoundrymarkLaw", name := "measure", desc := "(LFoundrymark;II[J)I" } : Jvm.MethodName)) ∈ lw_all := lw_g (lw_at lw_m4 169 rfl) rfl
theorem q929 : (Jvm.Cond.codeWith ({ cls := "FoundrymarkLaw", name := "measure", desc := "(LFoundrymark;II[J)I" } : Jvm.MethodName) method_12_code (5 : Nat) (Option.some Jvm.ClassFile.FieldType.int) [((0 : Nat), (17 : Nat), (20 : Nat), (24 : Nat)), ((0 : Nat), (17 : Nat), (24 : Nat), (13 : Nat))]) ∈ lw_all := lw_g (lw_at lw_m4 170 rfl) rfl
theorem q930 : (Jvm.Cond.methodLink "FoundrymarkLaw" (51 : Nat) ({ cls := "Foundrymark", name := "measure", desc := "(II)Z" } : Jvm.MethodName)) ∈ lw_all := lw_g (lw_at lw_m4 171 rfl) rfl
theorem q943 : (Jvm.Cond.methodLink "FoundrymarkLaw" (184 : Nat) ({ cls := "FoundrymarkLaw", name := "partOf", desc := "(LFoundrymark;I[J)I" } : Jvm.MethodName)) ∈ lw_all := lw_g (lw_at lw_m4 184 rfl) rfl
theorem q944 : (Jvm.Cond.static ({ cls := "FoundrymarkLaw", name := "partOf", desc := "(LFoundrymark;I[J)I" } : Jvm.MethodName)) ∈ lw_all := lw_g (lw_at lw_m4 185 rfl) rfl
theorem q945 : (Jvm.Cond.codeWith ({ cls := "FoundrymarkLaw", name := "partOf", desc := "(LFoundrymark;I[J)I" } : Jvm.MethodName) method_13_code (4 : Nat) (Option.some Jvm.ClassFile.FieldType.int) [((0 : Nat), (9 : Nat), (12 : Nat), (24 : Nat))]) ∈ lw_all := lw_g (lw_at lw_m4 186 rfl) rfl
theorem q946 : (Jvm.Cond.methodLink "FoundrymarkLaw" (55 : Nat) ({ cls := "Foundrymark", name := "partOf", desc := "(I)I" } : Jvm.MethodName)) ∈ lw_all := lw_g (lw_at lw_m4 187 rfl) rfl
theorem q950 : (Jvm.Cond.methodLink "FoundrymarkLaw" (187 : Nat) ({ cls := "FoundrymarkLaw", name := "rest", desc := "(LFoundrymark;I[J)I" } : Jvm.MethodName)) ∈ lw_all := lw_g (lw_at lw_m4 191 rfl) rfl
theorem q951 : (Jvm.Cond.static ({ cls := "FoundrymarkLaw", name := "rest", desc := "(LFoundrymark;I[J)I" } : Jvm.MethodName)) ∈ lw_all := lw_g (lw_at lw_m4 192 rfl) rfl
theorem q952 : (Jvm.Cond.codeWith ({ cls := "FoundrymarkLaw", name := "rest", desc := "(LFoundrymark;I[J)I" } : Jvm.MethodName) method_14_code (4 : Nat) (Option.some Jvm.ClassFile.FieldType.int) [((0 : Nat), (9 : Nat), (12 : Nat), (24 : Nat))]) ∈ lw_all := lw_g (lw_at lw_m4 193 rfl) rfl
theorem q953 : (Jvm.Cond.methodLink "FoundrymarkLaw" (59 : Nat) ({ cls := "Foundrymark", name := "rest", desc := "(I)I" } : Jvm.MethodName)) ∈ lw_all := lw_g (lw_at lw_m4 194 rfl) rfl
theorem q957 : (Jvm.Cond.methodLink "FoundrymarkLaw" (190 : Nat) ({ cls := "FoundrymarkLaw", name := "reserved", desc := "(LFoundrymark;I[J)I" } : Jvm.MethodName)) ∈ lw_all := lw_g (lw_at lw_m4 198 rfl) rfl
theorem q958 : (Jvm.Cond.static ({ cls := "FoundrymarkLaw", name := "reserved", desc := "(LFoundrymark;I[J)I" } : Jvm.MethodName)) ∈ lw_all := lw_g (lw_at lw_m4 199 rfl) rfl
theorem q959 : (Jvm.Cond.codeWith ({ cls := "FoundrymarkLaw", name := "reserved", desc := "(LFoundrymark;I[J)I" } : Jvm.MethodName) method_15_code (4 : Nat) (Option.some Jvm.ClassFile.FieldType.int) [((0 : Nat), (9 : Nat), (12 : Nat), (24 : Nat))]) ∈ lw_all := lw_g (lw_at lw_m4 200 rfl) rfl
theorem q960 : (Jvm.Cond.methodLink "FoundrymarkLaw" (62 : Nat) ({ cls := "Foundrymark", name := "reserved", desc := "(I)I" } : Jvm.MethodName)) ∈ lw_all := lw_g (lw_at lw_m4 201 rfl) rfl
theorem q964 : (Jvm.Cond.methodLink "FoundrymarkLaw" (193 : Nat) ({ cls := "FoundrymarkLaw", name := "costOf", desc := "(LFoundrymark;I[J)I" } : Jvm.MethodName)) ∈ lw_all := lw_g (lw_at lw_m4 205 rfl) rfl
theorem q965 : (Jvm.Cond.static ({ cls := "FoundrymarkLaw", name := "costOf", desc := "(LFoundrymark;I[J)I" } : Jvm.MethodName)) ∈ lw_all := lw_g (lw_at lw_m4 206 rfl) rfl
theorem q966 : (Jvm.Cond.codeWith ({ cls := "FoundrymarkLaw", name := "costOf", desc := "(LFoundrymark;I[J)I" } : Jvm.MethodName) method_16_code (4 : Nat) (Option.some Jvm.ClassFile.FieldType.int) [((0 : Nat), (8 : Nat), (11 : Nat), (24 : Nat))]) ∈ lw_all := lw_g (lw_at lw_m4 207 rfl) rfl
theorem q967 : (Jvm.Cond.methodLink "FoundrymarkLaw" (65 : Nat) ({ cls := "Foundrymark", name := "costOf", desc := "(I)J" } : Jvm.MethodName)) ∈ lw_all := lw_g (lw_at lw_m4 208 rfl) rfl
theorem q971 : (Jvm.Cond.methodLink "FoundrymarkLaw" (196 : Nat) ({ cls := "FoundrymarkLaw", name := "order", desc := "(LFoundrymark;IIII[J)I" } : Jvm.MethodName)) ∈ lw_all := lw_g (lw_at lw_m4 212 rfl) rfl
theorem q972 : (Jvm.Cond.static ({ cls := "FoundrymarkLaw", name := "order", desc := "(LFoundrymark;IIII[J)I" } : Jvm.MethodName)) ∈ lw_all := lw_g (lw_at lw_m4 213 rfl) rfl
theorem q973 : (Jvm.Cond.codeWith ({ cls := "FoundrymarkLaw", name := "order", desc := "(LFoundrymark;IIII[J)I" } : Jvm.MethodName) method_17_code (7 : Nat) (Option.some Jvm.ClassFile.FieldType.int) [((0 : Nat), (14 : Nat), (17 : Nat), (24 : Nat)), ((0 : Nat), (14 : Nat), (21 : Nat), (13 : Nat)), ((0 : Nat), (14 : Nat), (25 : Nat), (15 : Nat))]) ∈ lw_all := lw_g (lw_at lw_m4 214 rfl) rfl
theorem q974 : (Jvm.Cond.methodLink "FoundrymarkLaw" (69 : Nat) ({ cls := "Foundrymark", name := "order", desc := "(IIII)I" } : Jvm.MethodName)) ∈ lw_all := lw_g (lw_at lw_m4 215 rfl) rfl
theorem q1036 : (Jvm.Cond.methodLink "FoundrymarkLaw" (199 : Nat) ({ cls := "FoundrymarkLaw", name := "promise", desc := "(LFoundrymark;I[J)I" } : Jvm.MethodName)) ∈ lw_all := lw_g (lw_at lw_m5 37 rfl) rfl
theorem q1037 : (Jvm.Cond.static ({ cls := "FoundrymarkLaw", name := "promise", desc := "(LFoundrymark;I[J)I" } : Jvm.MethodName)) ∈ lw_all := lw_g (lw_at lw_m5 38 rfl) rfl
theorem q1038 : (Jvm.Cond.codeWith ({ cls := "FoundrymarkLaw", name := "promise", desc := "(LFoundrymark;I[J)I" } : Jvm.MethodName) method_18_code (4 : Nat) (Option.some Jvm.ClassFile.FieldType.int) [((0 : Nat), (16 : Nat), (19 : Nat), (24 : Nat)), ((0 : Nat), (16 : Nat), (22 : Nat), (26 : Nat))]) ∈ lw_all := lw_g (lw_at lw_m5 39 rfl) rfl
theorem q1039 : (Jvm.Cond.methodLink "FoundrymarkLaw" (72 : Nat) ({ cls := "Foundrymark", name := "promise", desc := "(I)Z" } : Jvm.MethodName)) ∈ lw_all := lw_g (lw_at lw_m5 40 rfl) rfl
theorem q1100 : (Jvm.Cond.methodLink "FoundrymarkLaw" (202 : Nat) ({ cls := "FoundrymarkLaw", name := "withdraw", desc := "(LFoundrymark;I[J)I" } : Jvm.MethodName)) ∈ lw_all := lw_g (lw_at lw_m5 101 rfl) rfl
theorem q1101 : (Jvm.Cond.static ({ cls := "FoundrymarkLaw", name := "withdraw", desc := "(LFoundrymark;I[J)I" } : Jvm.MethodName)) ∈ lw_all := lw_g (lw_at lw_m5 102 rfl) rfl
theorem q1102 : (Jvm.Cond.codeWith ({ cls := "FoundrymarkLaw", name := "withdraw", desc := "(LFoundrymark;I[J)I" } : Jvm.MethodName) method_19_code (4 : Nat) (Option.some Jvm.ClassFile.FieldType.int) [((0 : Nat), (9 : Nat), (12 : Nat), (24 : Nat)), ((0 : Nat), (9 : Nat), (15 : Nat), (26 : Nat))]) ∈ lw_all := lw_g (lw_at lw_m5 103 rfl) rfl
theorem q1103 : (Jvm.Cond.methodLink "FoundrymarkLaw" (75 : Nat) ({ cls := "Foundrymark", name := "withdraw", desc := "(I)I" } : Jvm.MethodName)) ∈ lw_all := lw_g (lw_at lw_m5 104 rfl) rfl
theorem q1107 : (Jvm.Cond.methodLink "FoundrymarkLaw" (205 : Nat) ({ cls := "FoundrymarkLaw", name := "release", desc := "(LFoundrymark;I[J)I" } : Jvm.MethodName)) ∈ lw_all := lw_g (lw_at lw_m5 108 rfl) rfl
theorem q1108 : (Jvm.Cond.static ({ cls := "FoundrymarkLaw", name := "release", desc := "(LFoundrymark;I[J)I" } : Jvm.MethodName)) ∈ lw_all := lw_g (lw_at lw_m5 109 rfl) rfl
theorem q1109 : (Jvm.Cond.codeWith ({ cls := "FoundrymarkLaw", name := "release", desc := "(LFoundrymark;I[J)I" } : Jvm.MethodName) method_20_code (4 : Nat) (Option.some Jvm.ClassFile.FieldType.int) [((0 : Nat), (16 : Nat), (19 : Nat), (24 : Nat)), ((0 : Nat), (16 : Nat), (22 : Nat), (26 : Nat))]) ∈ lw_all := lw_g (lw_at lw_m5 110 rfl) rfl
theorem q1110 : (Jvm.Cond.methodLink "FoundrymarkLaw" (78 : Nat) ({ cls := "Foundrymark", name := "release", desc := "(I)Z" } : Jvm.MethodName)) ∈ lw_all := lw_g (lw_at lw_m5 111 rfl) rfl
theorem q1290 : (Jvm.Cond.methodLink "FoundrymarkLaw" (208 : Nat) ({ cls := "FoundrymarkLaw", name := "scrap", desc := "(LFoundrymark;II[J)I" } : Jvm.MethodName)) ∈ lw_all := lw_g (lw_at lw_m6 51 rfl) rfl
theorem q1291 : (Jvm.Cond.static ({ cls := "FoundrymarkLaw", name := "scrap", desc := "(LFoundrymark;II[J)I" } : Jvm.MethodName)) ∈ lw_all := lw_g (lw_at lw_m6 52 rfl) rfl
theorem q1292 : (Jvm.Cond.codeWith ({ cls := "FoundrymarkLaw", name := "scrap", desc := "(LFoundrymark;II[J)I" } : Jvm.MethodName) method_21_code (5 : Nat) (Option.some Jvm.ClassFile.FieldType.int) [((0 : Nat), (10 : Nat), (13 : Nat), (24 : Nat)), ((0 : Nat), (10 : Nat), (17 : Nat), (26 : Nat)), ((0 : Nat), (10 : Nat), (21 : Nat), (13 : Nat))]) ∈ lw_all := lw_g (lw_at lw_m6 53 rfl) rfl
theorem q1293 : (Jvm.Cond.methodLink "FoundrymarkLaw" (81 : Nat) ({ cls := "Foundrymark", name := "scrap", desc := "(II)I" } : Jvm.MethodName)) ∈ lw_all := lw_g (lw_at lw_m6 54 rfl) rfl
theorem q1297 : (Jvm.Cond.methodLink "FoundrymarkLaw" (211 : Nat) ({ cls := "FoundrymarkLaw", name := "advance", desc := "(LFoundrymark;I[J)I" } : Jvm.MethodName)) ∈ lw_all := lw_g (lw_at lw_m6 58 rfl) rfl
theorem q1298 : (Jvm.Cond.static ({ cls := "FoundrymarkLaw", name := "advance", desc := "(LFoundrymark;I[J)I" } : Jvm.MethodName)) ∈ lw_all := lw_g (lw_at lw_m6 59 rfl) rfl
theorem q1299 : (Jvm.Cond.codeWith ({ cls := "FoundrymarkLaw", name := "advance", desc := "(LFoundrymark;I[J)I" } : Jvm.MethodName) method_22_code (4 : Nat) (Option.some Jvm.ClassFile.FieldType.int) [((0 : Nat), (9 : Nat), (12 : Nat), (13 : Nat)), ((0 : Nat), (9 : Nat), (15 : Nat), (15 : Nat))]) ∈ lw_all := lw_g (lw_at lw_m6 60 rfl) rfl
theorem q1300 : (Jvm.Cond.methodLink "FoundrymarkLaw" (85 : Nat) ({ cls := "Foundrymark", name := "advance", desc := "(I)I" } : Jvm.MethodName)) ∈ lw_all := lw_g (lw_at lw_m6 61 rfl) rfl
theorem q1313 : (Jvm.Cond.methodLink "FoundrymarkLaw" (214 : Nat) ({ cls := "FoundrymarkLaw", name := "deliver", desc := "(LFoundrymark;I[J)I" } : Jvm.MethodName)) ∈ lw_all := lw_g (lw_at lw_m6 74 rfl) rfl
theorem q1314 : (Jvm.Cond.static ({ cls := "FoundrymarkLaw", name := "deliver", desc := "(LFoundrymark;I[J)I" } : Jvm.MethodName)) ∈ lw_all := lw_g (lw_at lw_m6 75 rfl) rfl
theorem q1315 : (Jvm.Cond.codeWith ({ cls := "FoundrymarkLaw", name := "deliver", desc := "(LFoundrymark;I[J)I" } : Jvm.MethodName) method_23_code (4 : Nat) (Option.some Jvm.ClassFile.FieldType.int) [((0 : Nat), (16 : Nat), (19 : Nat), (24 : Nat)), ((0 : Nat), (16 : Nat), (22 : Nat), (26 : Nat))]) ∈ lw_all := lw_g (lw_at lw_m6 76 rfl) rfl
theorem q1316 : (Jvm.Cond.methodLink "FoundrymarkLaw" (88 : Nat) ({ cls := "Foundrymark", name := "deliver", desc := "(I)Z" } : Jvm.MethodName)) ∈ lw_all := lw_g (lw_at lw_m6 77 rfl) rfl
theorem q1346 : (Jvm.Cond.methodLink "FoundrymarkLaw" (217 : Nat) ({ cls := "FoundrymarkLaw", name := "stateOf", desc := "(LFoundrymark;I[J)I" } : Jvm.MethodName)) ∈ lw_all := lw_g (lw_at lw_m6 107 rfl) rfl
theorem q1347 : (Jvm.Cond.static ({ cls := "FoundrymarkLaw", name := "stateOf", desc := "(LFoundrymark;I[J)I" } : Jvm.MethodName)) ∈ lw_all := lw_g (lw_at lw_m6 108 rfl) rfl
theorem q1348 : (Jvm.Cond.codeWith ({ cls := "FoundrymarkLaw", name := "stateOf", desc := "(LFoundrymark;I[J)I" } : Jvm.MethodName) method_24_code (4 : Nat) (Option.some Jvm.ClassFile.FieldType.int) [((0 : Nat), (9 : Nat), (12 : Nat), (24 : Nat))]) ∈ lw_all := lw_g (lw_at lw_m6 109 rfl) rfl
theorem q1349 : (Jvm.Cond.methodLink "FoundrymarkLaw" (91 : Nat) ({ cls := "Foundrymark", name := "stateOf", desc := "(I)C" } : Jvm.MethodName)) ∈ lw_all := lw_g (lw_at lw_m6 110 rfl) rfl
theorem q1353 : (Jvm.Cond.methodLink "FoundrymarkLaw" (220 : Nat) ({ cls := "FoundrymarkLaw", name := "lotOf", desc := "(LFoundrymark;I[J)I" } : Jvm.MethodName)) ∈ lw_all := lw_g (lw_at lw_m6 114 rfl) rfl
theorem q1354 : (Jvm.Cond.static ({ cls := "FoundrymarkLaw", name := "lotOf", desc := "(LFoundrymark;I[J)I" } : Jvm.MethodName)) ∈ lw_all := lw_g (lw_at lw_m6 115 rfl) rfl
theorem q1355 : (Jvm.Cond.codeWith ({ cls := "FoundrymarkLaw", name := "lotOf", desc := "(LFoundrymark;I[J)I" } : Jvm.MethodName) method_25_code (4 : Nat) (Option.some Jvm.ClassFile.FieldType.int) [((0 : Nat), (9 : Nat), (12 : Nat), (24 : Nat)), ((0 : Nat), (9 : Nat), (15 : Nat), (97 : Nat))]) ∈ lw_all := lw_g (lw_at lw_m6 116 rfl) rfl
theorem q1356 : (Jvm.Cond.classLink "FoundrymarkLaw" (97 : Nat) "java/util/NoSuchElementException") ∈ lw_all := lw_g (lw_at lw_m6 117 rfl) rfl
theorem q1357 : (Jvm.Cond.methodLink "FoundrymarkLaw" (94 : Nat) ({ cls := "Foundrymark", name := "lotOf", desc := "(I)I" } : Jvm.MethodName)) ∈ lw_all := lw_g (lw_at lw_m6 118 rfl) rfl
theorem q1366 : (Jvm.Cond.methodLink "FoundrymarkLaw" (223 : Nat) ({ cls := "FoundrymarkLaw", name := "finishedAt", desc := "(LFoundrymark;I[J)I" } : Jvm.MethodName)) ∈ lw_all := lw_g (lw_at lw_m6 127 rfl) rfl
theorem q1367 : (Jvm.Cond.static ({ cls := "FoundrymarkLaw", name := "finishedAt", desc := "(LFoundrymark;I[J)I" } : Jvm.MethodName)) ∈ lw_all := lw_g (lw_at lw_m6 128 rfl) rfl
theorem q1368 : (Jvm.Cond.codeWith ({ cls := "FoundrymarkLaw", name := "finishedAt", desc := "(LFoundrymark;I[J)I" } : Jvm.MethodName) method_26_code (4 : Nat) (Option.some Jvm.ClassFile.FieldType.int) [((0 : Nat), (9 : Nat), (12 : Nat), (24 : Nat)), ((0 : Nat), (9 : Nat), (15 : Nat), (97 : Nat))]) ∈ lw_all := lw_g (lw_at lw_m6 129 rfl) rfl
theorem q1369 : (Jvm.Cond.methodLink "FoundrymarkLaw" (99 : Nat) ({ cls := "Foundrymark", name := "finishedAt", desc := "(I)I" } : Jvm.MethodName)) ∈ lw_all := lw_g (lw_at lw_m6 130 rfl) rfl
theorem q1373 : (Jvm.Cond.methodLink "FoundrymarkLaw" (226 : Nat) ({ cls := "FoundrymarkLaw", name := "machineIs", desc := "(LFoundrymark;I[J)I" } : Jvm.MethodName)) ∈ lw_all := lw_g (lw_at lw_m6 134 rfl) rfl
theorem q1374 : (Jvm.Cond.static ({ cls := "FoundrymarkLaw", name := "machineIs", desc := "(LFoundrymark;I[J)I" } : Jvm.MethodName)) ∈ lw_all := lw_g (lw_at lw_m6 135 rfl) rfl
theorem q1375 : (Jvm.Cond.codeWith ({ cls := "FoundrymarkLaw", name := "machineIs", desc := "(LFoundrymark;I[J)I" } : Jvm.MethodName) method_27_code (4 : Nat) (Option.some Jvm.ClassFile.FieldType.int) [((0 : Nat), (9 : Nat), (12 : Nat), (24 : Nat))]) ∈ lw_all := lw_g (lw_at lw_m6 136 rfl) rfl
theorem q1376 : (Jvm.Cond.methodLink "FoundrymarkLaw" (102 : Nat) ({ cls := "Foundrymark", name := "machineIs", desc := "(I)C" } : Jvm.MethodName)) ∈ lw_all := lw_g (lw_at lw_m6 137 rfl) rfl
theorem q1380 : (Jvm.Cond.methodLink "FoundrymarkLaw" (229 : Nat) ({ cls := "FoundrymarkLaw", name := "wear", desc := "(LFoundrymark;I[J)I" } : Jvm.MethodName)) ∈ lw_all := lw_g (lw_at lw_m6 141 rfl) rfl
theorem q1381 : (Jvm.Cond.static ({ cls := "FoundrymarkLaw", name := "wear", desc := "(LFoundrymark;I[J)I" } : Jvm.MethodName)) ∈ lw_all := lw_g (lw_at lw_m6 142 rfl) rfl
theorem q1382 : (Jvm.Cond.codeWith ({ cls := "FoundrymarkLaw", name := "wear", desc := "(LFoundrymark;I[J)I" } : Jvm.MethodName) method_28_code (4 : Nat) (Option.some Jvm.ClassFile.FieldType.int) [((0 : Nat), (9 : Nat), (12 : Nat), (24 : Nat))]) ∈ lw_all := lw_g (lw_at lw_m6 143 rfl) rfl
theorem q1383 : (Jvm.Cond.methodLink "FoundrymarkLaw" (105 : Nat) ({ cls := "Foundrymark", name := "wear", desc := "(I)I" } : Jvm.MethodName)) ∈ lw_all := lw_g (lw_at lw_m6 144 rfl) rfl
theorem q1387 : (Jvm.Cond.methodLink "FoundrymarkLaw" (232 : Nat) ({ cls := "FoundrymarkLaw", name := "waiting", desc := "(LFoundrymark;I[J)I" } : Jvm.MethodName)) ∈ lw_all := lw_g (lw_at lw_m6 148 rfl) rfl
theorem q1388 : (Jvm.Cond.static ({ cls := "FoundrymarkLaw", name := "waiting", desc := "(LFoundrymark;I[J)I" } : Jvm.MethodName)) ∈ lw_all := lw_g (lw_at lw_m6 149 rfl) rfl
theorem q1389 : (Jvm.Cond.codeWith ({ cls := "FoundrymarkLaw", name := "waiting", desc := "(LFoundrymark;I[J)I" } : Jvm.MethodName) method_29_code (4 : Nat) (Option.some Jvm.ClassFile.FieldType.int) [((0 : Nat), (9 : Nat), (12 : Nat), (24 : Nat))]) ∈ lw_all := lw_g (lw_at lw_m6 150 rfl) rfl
theorem q1390 : (Jvm.Cond.methodLink "FoundrymarkLaw" (108 : Nat) ({ cls := "Foundrymark", name := "waiting", desc := "(I)I" } : Jvm.MethodName)) ∈ lw_all := lw_g (lw_at lw_m6 151 rfl) rfl
theorem q1395 : (Jvm.Cond.methodLink "FoundrymarkLaw" (235 : Nat) ({ cls := "FoundrymarkLaw", name := "isIn", desc := "(LFoundrymark;II[J)I" } : Jvm.MethodName)) ∈ lw_all := lw_g (lw_at lw_m6 156 rfl) rfl
theorem q1396 : (Jvm.Cond.static ({ cls := "FoundrymarkLaw", name := "isIn", desc := "(LFoundrymark;II[J)I" } : Jvm.MethodName)) ∈ lw_all := lw_g (lw_at lw_m6 157 rfl) rfl
theorem q1397 : (Jvm.Cond.codeWith ({ cls := "FoundrymarkLaw", name := "isIn", desc := "(LFoundrymark;II[J)I" } : Jvm.MethodName) method_30_code (5 : Nat) (Option.some Jvm.ClassFile.FieldType.int) [((0 : Nat), (17 : Nat), (20 : Nat), (24 : Nat))]) ∈ lw_all := lw_g (lw_at lw_m6 158 rfl) rfl
theorem q1398 : (Jvm.Cond.methodLink "FoundrymarkLaw" (111 : Nat) ({ cls := "Foundrymark", name := "isIn", desc := "(II)Z" } : Jvm.MethodName)) ∈ lw_all := lw_g (lw_at lw_m6 159 rfl) rfl
theorem q1402 : (Jvm.Cond.methodLink "FoundrymarkLaw" (238 : Nat) ({ cls := "FoundrymarkLaw", name := "touched", desc := "(LFoundrymark;I[J)I" } : Jvm.MethodName)) ∈ lw_all := lw_g (lw_at lw_m6 163 rfl) rfl
theorem q1403 : (Jvm.Cond.static ({ cls := "FoundrymarkLaw", name := "touched", desc := "(LFoundrymark;I[J)I" } : Jvm.MethodName)) ∈ lw_all := lw_g (lw_at lw_m6 164 rfl) rfl
theorem q1404 : (Jvm.Cond.codeWith ({ cls := "FoundrymarkLaw", name := "touched", desc := "(LFoundrymark;I[J)I" } : Jvm.MethodName) method_31_code (4 : Nat) (Option.some Jvm.ClassFile.FieldType.int) [((0 : Nat), (9 : Nat), (12 : Nat), (24 : Nat))]) ∈ lw_all := lw_g (lw_at lw_m6 165 rfl) rfl
theorem q1405 : (Jvm.Cond.methodLink "FoundrymarkLaw" (114 : Nat) ({ cls := "Foundrymark", name := "touched", desc := "(I)I" } : Jvm.MethodName)) ∈ lw_all := lw_g (lw_at lw_m6 166 rfl) rfl
theorem q1406 : (Jvm.Cond.methodLink "FoundrymarkLaw" (241 : Nat) ({ cls := "FoundrymarkLaw", name := "lotsIn", desc := "(LFoundrymark;I[J)I" } : Jvm.MethodName)) ∈ lw_all := lw_g (lw_at lw_m6 167 rfl) rfl
theorem q1407 : (Jvm.Cond.static ({ cls := "FoundrymarkLaw", name := "lotsIn", desc := "(LFoundrymark;I[J)I" } : Jvm.MethodName)) ∈ lw_all := lw_g (lw_at lw_m6 168 rfl) rfl
theorem q1408 : (Jvm.Cond.codeWith ({ cls := "FoundrymarkLaw", name := "lotsIn", desc := "(LFoundrymark;I[J)I" } : Jvm.MethodName) method_32_code (4 : Nat) (Option.some Jvm.ClassFile.FieldType.int) [((0 : Nat), (9 : Nat), (12 : Nat), (24 : Nat))]) ∈ lw_all := lw_g (lw_at lw_m6 169 rfl) rfl
theorem q1409 : (Jvm.Cond.methodLink "FoundrymarkLaw" (117 : Nat) ({ cls := "Foundrymark", name := "lotsIn", desc := "(I)I" } : Jvm.MethodName)) ∈ lw_all := lw_g (lw_at lw_m6 170 rfl) rfl
theorem q1413 : (Jvm.Cond.methodLink "FoundrymarkLaw" (244 : Nat) ({ cls := "FoundrymarkLaw", name := "deliveredCost", desc := "(LFoundrymark;I[J)I" } : Jvm.MethodName)) ∈ lw_all := lw_g (lw_at lw_m6 174 rfl) rfl
theorem q1414 : (Jvm.Cond.static ({ cls := "FoundrymarkLaw", name := "deliveredCost", desc := "(LFoundrymark;I[J)I" } : Jvm.MethodName)) ∈ lw_all := lw_g (lw_at lw_m6 175 rfl) rfl
theorem q1415 : (Jvm.Cond.codeWith ({ cls := "FoundrymarkLaw", name := "deliveredCost", desc := "(LFoundrymark;I[J)I" } : Jvm.MethodName) method_33_code (4 : Nat) (Option.some Jvm.ClassFile.FieldType.int) [((0 : Nat), (8 : Nat), (11 : Nat), (24 : Nat)), ((0 : Nat), (8 : Nat), (14 : Nat), (97 : Nat))]) ∈ lw_all := lw_g (lw_at lw_m6 176 rfl) rfl
theorem q1416 : (Jvm.Cond.methodLink "FoundrymarkLaw" (120 : Nat) ({ cls := "Foundrymark", name := "deliveredCost", desc := "(I)J" } : Jvm.MethodName)) ∈ lw_all := lw_g (lw_at lw_m6 177 rfl) rfl
theorem q1420 : (Jvm.Cond.methodLink "FoundrymarkLaw" (247 : Nat) ({ cls := "FoundrymarkLaw", name := "inTimeShare", desc := "(LFoundrymark;[D)I" } : Jvm.MethodName)) ∈ lw_all := lw_g (lw_at lw_m6 181 rfl) rfl
theorem q1421 : (Jvm.Cond.static ({ cls := "FoundrymarkLaw", name := "inTimeShare", desc := "(LFoundrymark;[D)I" } : Jvm.MethodName)) ∈ lw_all := lw_g (lw_at lw_m6 182 rfl) rfl
theorem q1422 : (Jvm.Cond.codeWith ({ cls := "FoundrymarkLaw", name := "inTimeShare", desc := "(LFoundrymark;[D)I" } : Jvm.MethodName) method_34_code (3 : Nat) (Option.some Jvm.ClassFile.FieldType.int) [((0 : Nat), (8 : Nat), (11 : Nat), (127 : Nat))]) ∈ lw_all := lw_g (lw_at lw_m6 183 rfl) rfl
theorem q1423 : (Jvm.Cond.classLink "FoundrymarkLaw" (127 : Nat) "java/lang/ArithmeticException") ∈ lw_all := lw_g (lw_at lw_m6 184 rfl) rfl
theorem q1437 : (Jvm.Cond.methodLink "FoundrymarkLaw" (123 : Nat) ({ cls := "Foundrymark", name := "inTimeShare", desc := "()F" } : Jvm.MethodName)) ∈ lw_all := lw_g (lw_at lw_m6 198 rfl) rfl
theorem q1446 : (Jvm.Cond.methodLink "FoundrymarkLaw" (251 : Nat) ({ cls := "FoundrymarkLaw", name := "meanBusy", desc := "(LFoundrymark;[D)I" } : Jvm.MethodName)) ∈ lw_all := lw_g (lw_at lw_m6 207 rfl) rfl
theorem q1447 : (Jvm.Cond.static ({ cls := "FoundrymarkLaw", name := "meanBusy", desc := "(LFoundrymark;[D)I" } : Jvm.MethodName)) ∈ lw_all := lw_g (lw_at lw_m6 208 rfl) rfl
theorem q1448 : (Jvm.Cond.codeWith ({ cls := "FoundrymarkLaw", name := "meanBusy", desc := "(LFoundrymark;[D)I" } : Jvm.MethodName) method_35_code (3 : Nat) (Option.some Jvm.ClassFile.FieldType.int) [((0 : Nat), (7 : Nat), (10 : Nat), (127 : Nat))]) ∈ lw_all := lw_g (lw_at lw_m6 209 rfl) rfl
theorem q1449 : (Jvm.Cond.methodLink "FoundrymarkLaw" (129 : Nat) ({ cls := "Foundrymark", name := "meanBusy", desc := "()D" } : Jvm.MethodName)) ∈ lw_all := lw_g (lw_at lw_m6 210 rfl) rfl
theorem q1457 : (Jvm.Cond.classLink "FoundrymarkLaw" (134 : Nat) "FoundrymarkModel") ∈ lw_all := lw_g (lw_at lw_m6 218 rfl) rfl
theorem q1459 : (Jvm.Cond.methodLink "FoundrymarkLaw" (136 : Nat) ({ cls := "FoundrymarkModel", name := "<init>", desc := "()V" } : Jvm.MethodName)) ∈ lw_all := lw_g (lw_at lw_m6 220 rfl) rfl
theorem q1495 : (Jvm.Cond.methodLink "FoundrymarkLaw" (143 : Nat) ({ cls := "FoundrymarkModel", name := "thrown", desc := "()I" } : Jvm.MethodName)) ∈ lw_all := lw_g (lw_at lw_m7 16 rfl) rfl
theorem q1499 : (Jvm.Cond.methodLink "FoundrymarkLaw" (142 : Nat) ({ cls := "FoundrymarkModel", name := "addMachine", desc := "(IIII)I" } : Jvm.MethodName)) ∈ lw_all := lw_g (lw_at lw_m7 20 rfl) rfl
theorem q1557 : (Jvm.Cond.methodLink "FoundrymarkLaw" (150 : Nat) ({ cls := "FoundrymarkModel", name := "addPart", desc := "(ZI)I" } : Jvm.MethodName)) ∈ lw_all := lw_g (lw_at lw_m7 78 rfl) rfl
theorem q1603 : (Jvm.Cond.methodLink "FoundrymarkLaw" (153 : Nat) ({ cls := "FoundrymarkModel", name := "addComponent", desc := "(IIII)I" } : Jvm.MethodName)) ∈ lw_all := lw_g (lw_at lw_m7 124 rfl) rfl
theorem q1612 : (Jvm.Cond.methodLink "FoundrymarkLaw" (156 : Nat) ({ cls := "FoundrymarkModel", name := "addOperation", desc := "(IIII)I" } : Jvm.MethodName)) ∈ lw_all := lw_g (lw_at lw_m7 133 rfl) rfl
theorem q1620 : (Jvm.Cond.methodLink "FoundrymarkLaw" (160 : Nat) ({ cls := "FoundrymarkModel", name := "receive", desc := "(IIIII)I" } : Jvm.MethodName)) ∈ lw_all := lw_g (lw_at lw_m7 141 rfl) rfl
theorem q1672 : (Jvm.Cond.methodLink "FoundrymarkLaw" (164 : Nat) ({ cls := "FoundrymarkModel", name := "rule", desc := "(I)C" } : Jvm.MethodName)) ∈ lw_all := lw_g (lw_at lw_m7 193 rfl) rfl
theorem q1676 : (Jvm.Cond.methodLink "FoundrymarkLaw" (168 : Nat) ({ cls := "FoundrymarkModel", name := "hold", desc := "(IZ)I" } : Jvm.MethodName)) ∈ lw_all := lw_g (lw_at lw_m7 197 rfl) rfl
theorem q1714 : (Jvm.Cond.methodLink "FoundrymarkLaw" (171 : Nat) ({ cls := "FoundrymarkModel", name := "isHeld", desc := "(I)Z" } : Jvm.MethodName)) ∈ lw_all := lw_g (lw_at lw_m7 235 rfl) rfl
theorem q1718 : (Jvm.Cond.methodLink "FoundrymarkLaw" (175 : Nat) ({ cls := "FoundrymarkModel", name := "setChart", desc := "(III)I" } : Jvm.MethodName)) ∈ lw_all := lw_g (lw_at lw_m7 239 rfl) rfl
theorem q1722 : (Jvm.Cond.methodLink "FoundrymarkLaw" (179 : Nat) ({ cls := "FoundrymarkModel", name := "measure", desc := "(II)Z" } : Jvm.MethodName)) ∈ lw_all := lw_g (lw_at lw_m8 3 rfl) rfl
theorem q1727 : (Jvm.Cond.methodLink "FoundrymarkLaw" (183 : Nat) ({ cls := "FoundrymarkModel", name := "lots", desc := "()I" } : Jvm.MethodName)) ∈ lw_all := lw_g (lw_at lw_m8 8 rfl) rfl
theorem q1731 : (Jvm.Cond.methodLink "FoundrymarkLaw" (186 : Nat) ({ cls := "FoundrymarkModel", name := "partOf", desc := "(I)I" } : Jvm.MethodName)) ∈ lw_all := lw_g (lw_at lw_m8 12 rfl) rfl
theorem q1735 : (Jvm.Cond.methodLink "FoundrymarkLaw" (189 : Nat) ({ cls := "FoundrymarkModel", name := "rest", desc := "(I)I" } : Jvm.MethodName)) ∈ lw_all := lw_g (lw_at lw_m8 16 rfl) rfl
theorem q1739 : (Jvm.Cond.methodLink "FoundrymarkLaw" (192 : Nat) ({ cls := "FoundrymarkModel", name := "reserved", desc := "(I)I" } : Jvm.MethodName)) ∈ lw_all := lw_g (lw_at lw_m8 20 rfl) rfl
theorem q1743 : (Jvm.Cond.methodLink "FoundrymarkLaw" (195 : Nat) ({ cls := "FoundrymarkModel", name := "costOf", desc := "(I)J" } : Jvm.MethodName)) ∈ lw_all := lw_g (lw_at lw_m8 24 rfl) rfl
theorem q1747 : (Jvm.Cond.methodLink "FoundrymarkLaw" (198 : Nat) ({ cls := "FoundrymarkModel", name := "order", desc := "(IIII)I" } : Jvm.MethodName)) ∈ lw_all := lw_g (lw_at lw_m8 28 rfl) rfl
theorem q1820 : (Jvm.Cond.methodLink "FoundrymarkLaw" (201 : Nat) ({ cls := "FoundrymarkModel", name := "promise", desc := "(I)Z" } : Jvm.MethodName)) ∈ lw_all := lw_g (lw_at lw_m8 101 rfl) rfl
theorem q1853 : (Jvm.Cond.methodLink "FoundrymarkLaw" (204 : Nat) ({ cls := "FoundrymarkModel", name := "withdraw", desc := "(I)I" } : Jvm.MethodName)) ∈ lw_all := lw_g (lw_at lw_m8 134 rfl) rfl
theorem q1857 : (Jvm.Cond.methodLink "FoundrymarkLaw" (207 : Nat) ({ cls := "FoundrymarkModel", name := "release", desc := "(I)Z" } : Jvm.MethodName)) ∈ lw_all := lw_g (lw_at lw_m8 138 rfl) rfl
theorem q1885 : (Jvm.Cond.methodLink "FoundrymarkLaw" (210 : Nat) ({ cls := "FoundrymarkModel", name := "scrap", desc := "(II)I" } : Jvm.MethodName)) ∈ lw_all := lw_g (lw_at lw_m8 166 rfl) rfl
theorem q1889 : (Jvm.Cond.methodLink "FoundrymarkLaw" (213 : Nat) ({ cls := "FoundrymarkModel", name := "advance", desc := "(I)I" } : Jvm.MethodName)) ∈ lw_all := lw_g (lw_at lw_m8 170 rfl) rfl
theorem q1897 : (Jvm.Cond.methodLink "FoundrymarkLaw" (216 : Nat) ({ cls := "FoundrymarkModel", name := "deliver", desc := "(I)Z" } : Jvm.MethodName)) ∈ lw_all := lw_g (lw_at lw_m8 178 rfl) rfl
theorem q1905 : (Jvm.Cond.methodLink "FoundrymarkLaw" (219 : Nat) ({ cls := "FoundrymarkModel", name := "stateOf", desc := "(I)C" } : Jvm.MethodName)) ∈ lw_all := lw_g (lw_at lw_m8 186 rfl) rfl
theorem q1909 : (Jvm.Cond.methodLink "FoundrymarkLaw" (222 : Nat) ({ cls := "FoundrymarkModel", name := "lotOf", desc := "(I)I" } : Jvm.MethodName)) ∈ lw_all := lw_g (lw_at lw_m8 190 rfl) rfl
theorem q1913 : (Jvm.Cond.methodLink "FoundrymarkLaw" (225 : Nat) ({ cls := "FoundrymarkModel", name := "finishedAt", desc := "(I)I" } : Jvm.MethodName)) ∈ lw_all := lw_g (lw_at lw_m8 194 rfl) rfl
theorem q1917 : (Jvm.Cond.methodLink "FoundrymarkLaw" (228 : Nat) ({ cls := "FoundrymarkModel", name := "machineIs", desc := "(I)C" } : Jvm.MethodName)) ∈ lw_all := lw_g (lw_at lw_m8 198 rfl) rfl
theorem q1925 : (Jvm.Cond.methodLink "FoundrymarkLaw" (231 : Nat) ({ cls := "FoundrymarkModel", name := "wear", desc := "(I)I" } : Jvm.MethodName)) ∈ lw_all := lw_g (lw_at lw_m8 206 rfl) rfl
theorem q1929 : (Jvm.Cond.methodLink "FoundrymarkLaw" (234 : Nat) ({ cls := "FoundrymarkModel", name := "waiting", desc := "(I)I" } : Jvm.MethodName)) ∈ lw_all := lw_g (lw_at lw_m8 210 rfl) rfl
theorem q1933 : (Jvm.Cond.methodLink "FoundrymarkLaw" (237 : Nat) ({ cls := "FoundrymarkModel", name := "isIn", desc := "(II)Z" } : Jvm.MethodName)) ∈ lw_all := lw_g (lw_at lw_m8 214 rfl) rfl
theorem q1942 : (Jvm.Cond.methodLink "FoundrymarkLaw" (240 : Nat) ({ cls := "FoundrymarkModel", name := "touched", desc := "(I)I" } : Jvm.MethodName)) ∈ lw_all := lw_g (lw_at lw_m8 223 rfl) rfl
theorem q1949 : (Jvm.Cond.methodLink "FoundrymarkLaw" (243 : Nat) ({ cls := "FoundrymarkModel", name := "lotsIn", desc := "(I)I" } : Jvm.MethodName)) ∈ lw_all := lw_g (lw_at lw_m8 230 rfl) rfl
theorem q1953 : (Jvm.Cond.methodLink "FoundrymarkLaw" (246 : Nat) ({ cls := "FoundrymarkModel", name := "deliveredCost", desc := "(I)J" } : Jvm.MethodName)) ∈ lw_all := lw_g (lw_at lw_m8 234 rfl) rfl
theorem q1957 : (Jvm.Cond.methodLink "FoundrymarkLaw" (250 : Nat) ({ cls := "FoundrymarkModel", name := "inTimeShare", desc := "()F" } : Jvm.MethodName)) ∈ lw_all := lw_g (lw_at lw_m8 238 rfl) rfl
theorem q1961 : (Jvm.Cond.methodLink "FoundrymarkLaw" (253 : Nat) ({ cls := "FoundrymarkModel", name := "meanBusy", desc := "()D" } : Jvm.MethodName)) ∈ lw_all := lw_g (lw_at lw_m9 2 rfl) rfl
theorem q1966 : (Jvm.Cond.methodLink "FoundrymarkLaw" (258 : Nat) ({ cls := "FoundrymarkModel", name := "isSound", desc := "()Z" } : Jvm.MethodName)) ∈ lw_all := lw_g (lw_at lw_m9 7 rfl) rfl
