/-! THE ROOM: tables of promises and releases (tools/room/mk4.py), checked -/
set_option maxRecDepth 100000
def tE1 : Nat := 0x1ab5c00015f4d00011c760000eca00000c7100000a2a00000886a000070b700005d1800004c98000040750000361d00002d87000026f30000208900001b8f00001798000014110000112300000e6a00000c8a00000aaa0000092a000007bf000006cf000005df000004ef0000040a0000038a0000030a0000028a0000020a000001aa0000015f0000012f000000ff000000cf000000aa0000008a0000006a000000570000004b0000003f000000330000002a000000220000001a00000015000000120000000f0000000c0000000a0000000900000008000000070000000600000005000000040000000300000002000000010000000000000000
def tE2 : Nat := 0x356b80002be9a000238ec0001d94000018e2000014540000110d40000e16e0000ba3000009930000080ea00006c3a00005b0e00004de6000041120000371e00002f30000028220000224600001cd400001914000015540000125400000f7e00000d9e00000bbe000009de000008140000071400000614000005140000041400000354000002be0000025e000001fe0000019e0000015400000114000000d4000000ae000000960000007e000000660000005400000044000000340000002a000000240000001e000000180000001400000012000000100000000e0000000c0000000a000000080000000600000004000000020000000000000000
def tE3 : Nat := 0x5021400041de7000355620002c5e0000255300001e7e00001993e00015225000117480000e5c80000c15f0000a25700008895000074d90000619b000052ad000046c800003c330000336900002b3e0000259e00001ffe00001b7e0000173d0000146d0000119d00000ecd00000c1e00000a9e0000091e0000079e0000061e000004fe0000041d0000038d000002fd0000026d000001fe0000019e0000013e00000105000000e1000000bd000000990000007e000000660000004e0000003f000000360000002d000000240000001e0000001b0000001800000015000000120000000f0000000c0000000900000006000000030000000000000000
def tE4 : Nat := 0x6ad7000057d34000471d80003b28000031c4000028a80000221a80001c2dc0001746000013260000101d40000d8740000b61c00009bcc0000822400006e3c00005e60000050440000448c000039a80000322800002aa8000024a800001efc00001b3c0000177c000013bc0000102800000e2800000c2800000a2800000828000006a80000057c000004bc000003fc0000033c000002a800000228000001a80000015c0000012c000000fc000000cc000000a8000000880000006800000054000000480000003c000000300000002800000024000000200000001c0000001800000014000000100000000c00000008000000040000000000000000
def tabR : Nat := 0x8f9ea000774a400063152000537fa000465520003b3ca00032db40002ac48000243ac0001ee7a0001a324000167d2000130aa000103820000db5a0000be840000a3b80000898c000074c000006214000053320000455200003ae2000030ba000027540000204800001b1c000016d00000132400000f8a00000cb200000a420000081a000006b40000059a000004bc000003e0000003340000029a00000212000001a20000016000000120000000ea000000cc000000b0000000940000007a000000640000005200000040000000300000002400000018000000120000000c000000080000000400000002000000000000000000000000000000000000000000000000
def tUB : Nat := 0xc0c0c0c0b0b0b0a0a0a0a0a0a09090808080807070706050504040302010000
def tE (c : Nat) : Nat := if c = 0 then 0 else if c = 1 then tE1 else if c = 2 then tE2 else if c = 3 then tE3 else tE4
def tub (b : Nat) : Nat := Nat.land (Nat.shiftRight tUB (Nat.mul 8 b)) 255
/-- c1 components on a made part with b + 1 lots, or a bought one -/
noncomputable def ckE (c1 Ef Ec K : Nat) : Bool := allN 31 (fun b => allN 5 (fun d => Bool.rec true (Nat.ble (Nat.add (Nat.mul c1 (Nat.add (Nat.succ b) (tat (tJ 0 d) (Nat.add (Nat.mul 64 (tub (Nat.succ b))) (Nat.sub K (Nat.add (Nat.add 3 d) (Nat.mul 2 b))))))) (tat Ef (Nat.sub K (Nat.add (Nat.add 3 d) (Nat.mul 2 b))))) (tat Ec K)) (Nat.ble (Nat.add (Nat.add 3 d) (Nat.mul 2 b)) K)))
noncomputable def ckEb (c1 Ef Ec K : Nat) : Bool := allN 62 (fun b => Bool.rec true (Nat.ble (Nat.add (Nat.mul c1 (Nat.succ b)) (tat Ef (Nat.sub K (Nat.add 2 b)))) (tat Ec K)) (Nat.ble (Nat.add 2 b) K))
noncomputable def ckEm (Ef Ec K : Nat) : Bool := Bool.rec false (Nat.ble (tat Ef K) (tat Ec K)) (Nat.ble (tat Ec K) (tat Ec (Nat.succ K)))
noncomputable def ckRl (K : Nat) : Bool := allN 5 (fun c => allN 32 (fun b => Bool.rec true (Nat.ble (Nat.add (Nat.mul (Nat.mul b 2) (tat (tE c) (Nat.sub K (Nat.add (Nat.add 1 c) (Nat.mul 2 b))))) (tat tabR (Nat.sub K (Nat.add (Nat.add 1 c) (Nat.mul 2 b))))) (tat tabR K)) (Nat.ble (Nat.add (Nat.add 1 c) (Nat.mul 2 b)) K)))
theorem ckE_1_0 : allN 63 (ckE 1 0 tE1) = true := by decide +kernel
theorem ckEb_1_0 : allN 63 (ckEb 1 0 tE1) = true := by decide +kernel
theorem ckEm_1 : allN 62 (ckEm 0 tE1) = true := by decide +kernel
theorem ckE_1_1 : allN 63 (ckE 1 tE1 tE2) = true := by decide +kernel
theorem ckEb_1_1 : allN 63 (ckEb 1 tE1 tE2) = true := by decide +kernel
theorem ckE_2_0 : allN 63 (ckE 2 0 tE2) = true := by decide +kernel
theorem ckEb_2_0 : allN 63 (ckEb 2 0 tE2) = true := by decide +kernel
theorem ckEm_2 : allN 62 (ckEm tE1 tE2) = true := by decide +kernel
theorem ckE_1_2 : allN 63 (ckE 1 tE2 tE3) = true := by decide +kernel
theorem ckEb_1_2 : allN 63 (ckEb 1 tE2 tE3) = true := by decide +kernel
theorem ckE_2_1 : allN 63 (ckE 2 tE1 tE3) = true := by decide +kernel
theorem ckEb_2_1 : allN 63 (ckEb 2 tE1 tE3) = true := by decide +kernel
theorem ckE_3_0 : allN 63 (ckE 3 0 tE3) = true := by decide +kernel
theorem ckEb_3_0 : allN 63 (ckEb 3 0 tE3) = true := by decide +kernel
theorem ckEm_3 : allN 62 (ckEm tE2 tE3) = true := by decide +kernel
theorem ckE_1_3 : allN 63 (ckE 1 tE3 tE4) = true := by decide +kernel
theorem ckEb_1_3 : allN 63 (ckEb 1 tE3 tE4) = true := by decide +kernel
theorem ckE_2_2 : allN 63 (ckE 2 tE2 tE4) = true := by decide +kernel
theorem ckEb_2_2 : allN 63 (ckEb 2 tE2 tE4) = true := by decide +kernel
theorem ckE_3_1 : allN 63 (ckE 3 tE1 tE4) = true := by decide +kernel
theorem ckEb_3_1 : allN 63 (ckEb 3 tE1 tE4) = true := by decide +kernel
theorem ckE_4_0 : allN 63 (ckE 4 0 tE4) = true := by decide +kernel
theorem ckEb_4_0 : allN 63 (ckEb 4 0 tE4) = true := by decide +kernel
theorem ckEm_4 : allN 62 (ckEm tE3 tE4) = true := by decide +kernel
theorem ckRl_all : allN 65 ckRl = true := by decide +kernel
theorem ckRm : allN 64 (fun K => Nat.ble (tat tabR K) (tat tabR (Nat.succ K))) = true := by decide +kernel
theorem ckUb : allN 31 (fun b => Bool.rec false (Nat.blt (tub (Nat.succ b)) 32) (Nat.ble (Nat.succ b) (tat tG (tub (Nat.succ b))))) = true := by decide +kernel
/-- failing promises with all releases: q calls below the promised part, 6 for it -/
theorem ckT1 : allN 59 (fun q => Nat.ble (Nat.add (Nat.mul (Nat.mul (Nat.sub 58 q) 2) (tat tE4 q)) (tat tabR (Nat.add q 6))) 1050706) = true := by decide +kernel
theorem ckE_all : ∀ c1 f : Nat, 1 ≤ c1 → c1 + f ≤ 4 → allN 63 (ckE c1 (tE f) (tE (c1 + f))) = true := by
  intro c1 f h1 h4
  have h : (c1 = 1 ∧ f = 0) ∨ (c1 = 1 ∧ f = 1) ∨ (c1 = 1 ∧ f = 2) ∨ (c1 = 1 ∧ f = 3) ∨ (c1 = 2 ∧ f = 0) ∨ (c1 = 2 ∧ f = 1) ∨ (c1 = 2 ∧ f = 2) ∨ (c1 = 3 ∧ f = 0) ∨ (c1 = 3 ∧ f = 1) ∨ (c1 = 4 ∧ f = 0) := by omega
  rcases h with ⟨rfl, rfl⟩ | ⟨rfl, rfl⟩ | ⟨rfl, rfl⟩ | ⟨rfl, rfl⟩ | ⟨rfl, rfl⟩ | ⟨rfl, rfl⟩ | ⟨rfl, rfl⟩ | ⟨rfl, rfl⟩ | ⟨rfl, rfl⟩ | ⟨rfl, rfl⟩
  · exact ckE_1_0
  · exact ckE_1_1
  · exact ckE_1_2
  · exact ckE_1_3
  · exact ckE_2_0
  · exact ckE_2_1
  · exact ckE_2_2
  · exact ckE_3_0
  · exact ckE_3_1
  · exact ckE_4_0
theorem ckEb_all : ∀ c1 f : Nat, 1 ≤ c1 → c1 + f ≤ 4 → allN 63 (ckEb c1 (tE f) (tE (c1 + f))) = true := by
  intro c1 f h1 h4
  have h : (c1 = 1 ∧ f = 0) ∨ (c1 = 1 ∧ f = 1) ∨ (c1 = 1 ∧ f = 2) ∨ (c1 = 1 ∧ f = 3) ∨ (c1 = 2 ∧ f = 0) ∨ (c1 = 2 ∧ f = 1) ∨ (c1 = 2 ∧ f = 2) ∨ (c1 = 3 ∧ f = 0) ∨ (c1 = 3 ∧ f = 1) ∨ (c1 = 4 ∧ f = 0) := by omega
  rcases h with ⟨rfl, rfl⟩ | ⟨rfl, rfl⟩ | ⟨rfl, rfl⟩ | ⟨rfl, rfl⟩ | ⟨rfl, rfl⟩ | ⟨rfl, rfl⟩ | ⟨rfl, rfl⟩ | ⟨rfl, rfl⟩ | ⟨rfl, rfl⟩ | ⟨rfl, rfl⟩
  · exact ckEb_1_0
  · exact ckEb_1_1
  · exact ckEb_1_2
  · exact ckEb_1_3
  · exact ckEb_2_0
  · exact ckEb_2_1
  · exact ckEb_2_2
  · exact ckEb_3_0
  · exact ckEb_3_1
  · exact ckEb_4_0
theorem ckEm_all : ∀ c : Nat, 1 ≤ c → c ≤ 4 → allN 62 (ckEm (tE (c - 1)) (tE c)) = true := by
  intro c h1 h4
  have h : c = 1 ∨ c = 2 ∨ c = 3 ∨ c = 4 := by omega
  rcases h with rfl | rfl | rfl | rfl
  · exact ckEm_1
  · exact ckEm_2
  · exact ckEm_3
  · exact ckEm_4
