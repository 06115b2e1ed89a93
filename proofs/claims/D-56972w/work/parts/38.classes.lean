/-! THE INTERPRETER: classes in the pools, casts that hold, what 'new' makes (printed by tools/classes.py) -/
set_option maxRecDepth 100000
/-- a class entry: the class's number, the entry, the name that it means -/
def zl_good (r : (Nat × Nat) × String) : Prop := ∃ own : String, zcn[r.1.1]? = some own ∧ Cond.classLink own r.1.2 r.2 ∈ lw_all
def zl0 : (Nat × Nat) × String := ((19, 12), "java/lang/IllegalArgumentException")
theorem zl0_g : zl_good zl0 := ⟨_, rfl, q462⟩
def zl1 : (Nat × Nat) × String := ((19, 15), "java/lang/Object")
theorem zl1_g : zl_good zl1 := ⟨_, rfl, q464⟩
def zl2 : (Nat × Nat) × String := ((19, 144), "java/lang/Comparable")
theorem zl2_g : zl_good zl2 := ⟨_, rfl, q1177⟩
def zl3 : (Nat × Nat) × String := ((1, 267), "java/util/ArrayList$Itr")
theorem zl3_g : zl_good zl3 := ⟨_, rfl, q193⟩
def zl4 : (Nat × Nat) × String := ((1, 7), "java/lang/Object")
theorem zl4_g : zl_good zl4 := ⟨_, rfl, q602⟩
def zl5 : (Nat × Nat) × String := ((30, 8), "java/lang/Boolean")
theorem zl5_g : zl_good zl5 := ⟨_, rfl, q1235⟩
def zl6 : (Nat × Nat) × String := ((5, 34), "java/util/NoSuchElementException")
theorem zl6_g : zl_good zl6 := ⟨_, rfl, q235⟩
def zl7 : (Nat × Nat) × String := ((38, 1), "java/lang/Integer")
theorem zl7_g : zl_good zl7 := ⟨_, rfl, q1249⟩
def zl8 : (Nat × Nat) × String := ((39, 2), "java/lang/Enum")
theorem zl8_g : zl_good zl8 := ⟨_, rfl, q1202⟩
def zl9 : (Nat × Nat) × String := ((22, 110), "[Ljava/lang/Object;")
theorem zl9_g : zl_good zl9 := ⟨_, rfl, q593⟩
def zl10 : (Nat × Nat) × String := ((22, 2), "java/lang/Object")
theorem zl10_g : zl_good zl10 := ⟨_, rfl, q594⟩
def zl11 : (Nat × Nat) × String := ((15, 8), "Foundrymark")
theorem zl11_g : zl_good zl11 := ⟨_, rfl, q90⟩
def zl12 : (Nat × Nat) × String := ((15, 13), "java/lang/IllegalArgumentException")
theorem zl12_g : zl_good zl12 := ⟨_, rfl, q402⟩
def zl13 : (Nat × Nat) × String := ((15, 15), "java/lang/IllegalStateException")
theorem zl13_g : zl_good zl13 := ⟨_, rfl, q403⟩
def zl14 : (Nat × Nat) × String := ((15, 24), "java/lang/IndexOutOfBoundsException")
theorem zl14_g : zl_good zl14 := ⟨_, rfl, q675⟩
def zl15 : (Nat × Nat) × String := ((15, 26), "java/lang/UnsupportedOperationException")
theorem zl15_g : zl_good zl15 := ⟨_, rfl, q708⟩
def zl16 : (Nat × Nat) × String := ((15, 97), "java/util/NoSuchElementException")
theorem zl16_g : zl_good zl16 := ⟨_, rfl, q1356⟩
def zl17 : (Nat × Nat) × String := ((15, 127), "java/lang/ArithmeticException")
theorem zl17_g : zl_good zl17 := ⟨_, rfl, q1423⟩
def zl18 : (Nat × Nat) × String := ((15, 134), "FoundrymarkModel")
theorem zl18_g : zl_good zl18 := ⟨_, rfl, q1457⟩
def zl19 : (Nat × Nat) × String := ((0, 22), "java/util/ArrayList")
theorem zl19_g : zl_good zl19 := ⟨_, rfl, q98⟩
def zl20 : (Nat × Nat) × String := ((0, 40), "Foundrymark$Supplier")
theorem zl20_g : zl_good zl20 := ⟨_, rfl, q127⟩
def zl21 : (Nat × Nat) × String := ((0, 151), "Foundrymark$Order")
theorem zl21_g : zl_good zl21 := ⟨_, rfl, q304⟩
def zl22 : (Nat × Nat) × String := ((0, 169), "Foundrymark$Taken")
theorem zl22_g : zl_good zl22 := ⟨_, rfl, q309⟩
def zl23 : (Nat × Nat) × String := ((0, 1), "java/lang/IndexOutOfBoundsException")
theorem zl23_g : zl_good zl23 := ⟨_, rfl, q327⟩
def zl24 : (Nat × Nat) × String := ((0, 113), "Foundrymark$Lot")
theorem zl24_g : zl_good zl24 := ⟨_, rfl, q357⟩
def zl25 : (Nat × Nat) × String := ((0, 7), "java/lang/IllegalArgumentException")
theorem zl25_g : zl_good zl25 := ⟨_, rfl, q411⟩
def zl26 : (Nat × Nat) × String := ((0, 10), "java/lang/IllegalStateException")
theorem zl26_g : zl_good zl26 := ⟨_, rfl, q429⟩
def zl27 : (Nat × Nat) × String := ((0, 62), "Foundrymark$Machine")
theorem zl27_g : zl_good zl27 := ⟨_, rfl, q444⟩
def zl28 : (Nat × Nat) × String := ((0, 71), "Foundrymark$Made")
theorem zl28_g : zl_good zl28 := ⟨_, rfl, q610⟩
def zl29 : (Nat × Nat) × String := ((0, 76), "Foundrymark$Bought")
theorem zl29_g : zl_good zl29 := ⟨_, rfl, q658⟩
def zl30 : (Nat × Nat) × String := ((0, 86), "Foundrymark$Part")
theorem zl30_g : zl_good zl30 := ⟨_, rfl, q717⟩
def zl31 : (Nat × Nat) × String := ((0, 13), "java/lang/UnsupportedOperationException")
theorem zl31_g : zl_good zl31 := ⟨_, rfl, q721⟩
def zl32 : (Nat × Nat) × String := ((0, 98), "Foundrymark$Component")
theorem zl32_g : zl_good zl32 := ⟨_, rfl, q736⟩
def zl33 : (Nat × Nat) × String := ((0, 110), "Foundrymark$Operation")
theorem zl33_g : zl_good zl33 := ⟨_, rfl, q765⟩
def zl34 : (Nat × Nat) × String := ((0, 249), "Foundrymark$Lack")
theorem zl34_g : zl_good zl34 := ⟨_, rfl, q1051⟩
def zl35 : (Nat × Nat) × String := ((0, 16), "java/util/NoSuchElementException")
theorem zl35_g : zl_good zl35 := ⟨_, rfl, q1364⟩
def zl36 : (Nat × Nat) × String := ((0, 451), "java/lang/ArithmeticException")
theorem zl36_g : zl_good zl36 := ⟨_, rfl, q1441⟩
def zl37 : (Nat × Nat) × String := ((43, 7), "java/util/ArrayList")
theorem zl37_g : zl_good zl37 := ⟨_, rfl, q1567⟩
def zl38 : (Nat × Nat) × String := ((13, 51), "Foundrymark$Taken")
theorem zl38_g : zl_good zl38 := ⟨_, rfl, q370⟩
def zl39 : (Nat × Nat) × String := ((13, 67), "Foundrymark$Lack")
theorem zl39_g : zl_good zl39 := ⟨_, rfl, q1121⟩
def zl40 : (Nat × Nat) × String := ((31, 23), "java/lang/Boolean")
theorem zl40_g : zl_good zl40 := ⟨_, rfl, q853⟩
def zl41 : (Nat × Nat) × String := ((44, 7), "java/util/ArrayList")
theorem zl41_g : zl_good zl41 := ⟨_, rfl, q1634⟩
def zl42 : (Nat × Nat) × String := ((44, 11), "FoundrymarkModel$Lot")
theorem zl42_g : zl_good zl42 := ⟨_, rfl, q1703⟩
def zl43 : (Nat × Nat) × String := ((35, 7), "java/util/ArrayList")
theorem zl43_g : zl_good zl43 := ⟨_, rfl, q983⟩
def zl44 : (Nat × Nat) × String := ((35, 11), "Foundrymark$Order")
theorem zl44_g : zl_good zl44 := ⟨_, rfl, q1188⟩
def zl45 : (Nat × Nat) × String := ((4, 18), "java/util/ArrayList")
theorem zl45_g : zl_good zl45 := ⟨_, rfl, q136⟩
def zl46 : (Nat × Nat) × String := ((45, 13), "java/util/ArrayList")
theorem zl46_g : zl_good zl46 := ⟨_, rfl, q1756⟩
def zl47 : (Nat × Nat) × String := ((32, 56), "java/lang/Boolean")
theorem zl47_g : zl_good zl47 := ⟨_, rfl, q867⟩
def zl48 : (Nat × Nat) × String := ((41, 7), "java/util/ArrayList")
theorem zl48_g : zl_good zl48 := ⟨_, rfl, q1463⟩
def zl49 : (Nat × Nat) × String := ((41, 52), "FoundrymarkModel$Machine")
theorem zl49_g : zl_good zl49 := ⟨_, rfl, q1511⟩
def zl50 : (Nat × Nat) × String := ((41, 57), "FoundrymarkModel$Part")
theorem zl50_g : zl_good zl50 := ⟨_, rfl, q1561⟩
def zl51 : (Nat × Nat) × String := ((41, 82), "FoundrymarkModel$Lot")
theorem zl51_g : zl_good zl51 := ⟨_, rfl, q1628⟩
def zl52 : (Nat × Nat) × String := ((41, 98), "java/lang/Boolean")
theorem zl52_g : zl_good zl52 := ⟨_, rfl, q1669⟩
def zl53 : (Nat × Nat) × String := ((41, 136), "FoundrymarkModel$Order")
theorem zl53_g : zl_good zl53 := ⟨_, rfl, q1693⟩
def zl54 : (Nat × Nat) × String := ((41, 156), "java/lang/Integer")
theorem zl54_g : zl_good zl54 := ⟨_, rfl, q1709⟩
def zl55 : (Nat × Nat) × String := ((41, 200), "[I")
theorem zl55_g : zl_good zl55 := ⟨_, rfl, q1832⟩
def zl56 : (Nat × Nat) × String := ((18, 9), "java/util/PriorityQueue")
theorem zl56_g : zl_good zl56 := ⟨_, rfl, q450⟩
def zl57 : (Nat × Nat) × String := ((23, 7), "java/util/ArrayList")
theorem zl57_g : zl_good zl57 := ⟨_, rfl, q619⟩
def zlL : List ((Nat × Nat) × String) := [zl0, zl1, zl2, zl3, zl4, zl5, zl6, zl7, zl8, zl9, zl10, zl11, zl12, zl13, zl14, zl15, zl16, zl17, zl18, zl19, zl20, zl21, zl22, zl23, zl24, zl25, zl26, zl27, zl28, zl29, zl30, zl31, zl32, zl33, zl34, zl35, zl36, zl37, zl38, zl39, zl40, zl41, zl42, zl43, zl44, zl45, zl46, zl47, zl48, zl49, zl50, zl51, zl52, zl53, zl54, zl55, zl56, zl57]
theorem zlL_good : ∀ r ∈ zlL, zl_good r := List.forall_mem_cons.mpr ⟨zl0_g, List.forall_mem_cons.mpr ⟨zl1_g, List.forall_mem_cons.mpr ⟨zl2_g, List.forall_mem_cons.mpr ⟨zl3_g, List.forall_mem_cons.mpr ⟨zl4_g, List.forall_mem_cons.mpr ⟨zl5_g, List.forall_mem_cons.mpr ⟨zl6_g, List.forall_mem_cons.mpr ⟨zl7_g, List.forall_mem_cons.mpr ⟨zl8_g, List.forall_mem_cons.mpr ⟨zl9_g, List.forall_mem_cons.mpr ⟨zl10_g, List.forall_mem_cons.mpr ⟨zl11_g, List.forall_mem_cons.mpr ⟨zl12_g, List.forall_mem_cons.mpr ⟨zl13_g, List.forall_mem_cons.mpr ⟨zl14_g, List.forall_mem_cons.mpr ⟨zl15_g, List.forall_mem_cons.mpr ⟨zl16_g, List.forall_mem_cons.mpr ⟨zl17_g, List.forall_mem_cons.mpr ⟨zl18_g, List.forall_mem_cons.mpr ⟨zl19_g, List.forall_mem_cons.mpr ⟨zl20_g, List.forall_mem_cons.mpr ⟨zl21_g, List.forall_mem_cons.mpr ⟨zl22_g, List.forall_mem_cons.mpr ⟨zl23_g, List.forall_mem_cons.mpr ⟨zl24_g, List.forall_mem_cons.mpr ⟨zl25_g, List.forall_mem_cons.mpr ⟨zl26_g, List.forall_mem_cons.mpr ⟨zl27_g, List.forall_mem_cons.mpr ⟨zl28_g, List.forall_mem_cons.mpr ⟨zl29_g, List.forall_mem_cons.mpr ⟨zl30_g, List.forall_mem_cons.mpr ⟨zl31_g, List.forall_mem_cons.mpr ⟨zl32_g, List.forall_mem_cons.mpr ⟨zl33_g, List.forall_mem_cons.mpr ⟨zl34_g, List.forall_mem_cons.mpr ⟨zl35_g, List.forall_mem_cons.mpr ⟨zl36_g, List.forall_mem_cons.mpr ⟨zl37_g, List.forall_mem_cons.mpr ⟨zl38_g, List.forall_mem_cons.mpr ⟨zl39_g, List.forall_mem_cons.mpr ⟨zl40_g, List.forall_mem_cons.mpr ⟨zl41_g, List.forall_mem_cons.mpr ⟨zl42_g, List.forall_mem_cons.mpr ⟨zl43_g, List.forall_mem_cons.mpr ⟨zl44_g, List.forall_mem_cons.mpr ⟨zl45_g, List.forall_mem_cons.mpr ⟨zl46_g, List.forall_mem_cons.mpr ⟨zl47_g, List.forall_mem_cons.mpr ⟨zl48_g, List.forall_mem_cons.mpr ⟨zl49_g, List.forall_mem_cons.mpr ⟨zl50_g, List.forall_mem_cons.mpr ⟨zl51_g, List.forall_mem_cons.mpr ⟨zl52_g, List.forall_mem_cons.mpr ⟨zl53_g, List.forall_mem_cons.mpr ⟨zl54_g, List.forall_mem_cons.mpr ⟨zl55_g, List.forall_mem_cons.mpr ⟨zl56_g, List.forall_mem_cons.mpr ⟨zl57_g, fun _ h => absurd h List.not_mem_nil⟩⟩⟩⟩⟩⟩⟩⟩⟩⟩⟩⟩⟩⟩⟩⟩⟩⟩⟩⟩⟩⟩⟩⟩⟩⟩⟩⟩⟩⟩⟩⟩⟩⟩⟩⟩⟩⟩⟩⟩⟩⟩⟩⟩⟩⟩⟩⟩⟩⟩⟩⟩⟩⟩⟩⟩⟩⟩
def zl_at (own idx : Nat) : Option String := (zlL.find? (fun r => r.1.1 == own && r.1.2 == idx)).map (·.2)
theorem zl_at_ok {own idx : Nat} {x : String} (h : zl_at own idx = some x) : zl_good ((own, idx), x) := by
  unfold zl_at at h
  cases hf : zlL.find? (fun r => r.1.1 == own && r.1.2 == idx) with
  | none => rw [hf] at h; cases h
  | some r =>
    rw [hf] at h
    obtain rfl := Option.some.inj h
    have h1 := List.find?_some hf
    have h2 := zlL_good r (List.mem_of_find?_eq_some hf)
    simp only [Bool.and_eq_true, beq_iff_eq] at h1
    obtain ⟨⟨a, b⟩, x⟩ := r
    obtain ⟨rfl, rfl⟩ := h1
    exact h2
/-- an object of this class can be cast so -/
def zco_good (r : Nat × String) : Prop := ∃ q : vw_C, zcl[r.1]? = some q ∧ (Cond.castable q.1 r.2 ∈ lw_tbl ∨ q.1 = r.2)
def zco0 : Nat × String := (18, "java/util/Collection")
theorem zco0_g : zco_good zco0 := ⟨_, rfl, Or.inl q1337⟩
def zco1 : Nat × String := (18, "java/lang/Object")
theorem zco1_g : zco_good zco1 := ⟨_, rfl, Or.inl q1990⟩
def zco2 : Nat × String := (16, "java/util/Collection")
theorem zco2_g : zco_good zco2 := ⟨_, rfl, Or.inl q1331⟩
def zco3 : Nat × String := (16, "java/lang/Object")
theorem zco3_g : zco_good zco3 := ⟨_, rfl, Or.inl q1984⟩
def zco4 : Nat × String := (17, "java/util/Iterator")
theorem zco4_g : zco_good zco4 := ⟨_, rfl, Or.inl q216⟩
def zco5 : Nat × String := (17, "java/lang/Object")
theorem zco5_g : zco_good zco5 := ⟨_, rfl, Or.inl q2005⟩
def zco6 : Nat × String := (19, "java/lang/Comparable")
theorem zco6_g : zco_good zco6 := ⟨_, rfl, Or.inl q1243⟩
def zco7 : Nat × String := (19, "java/lang/Object")
theorem zco7_g : zco_good zco7 := ⟨_, rfl, Or.inl q2012⟩
def zco8 : Nat × String := (0, "java/lang/Object")
theorem zco8_g : zco_good zco8 := ⟨_, rfl, Or.inl q1983⟩
def zco9 : Nat × String := (13, "java/lang/Object")
theorem zco9_g : zco_good zco9 := ⟨_, rfl, Or.inl q1994⟩
def zco10 : Nat × String := (4, "java/lang/Object")
theorem zco10_g : zco_good zco10 := ⟨_, rfl, Or.inl q1998⟩
def zco11 : Nat × String := (5, "java/lang/Object")
theorem zco11_g : zco_good zco11 := ⟨_, rfl, Or.inl q1999⟩
def zco12 : Nat × String := (6, "java/lang/Object")
theorem zco12_g : zco_good zco12 := ⟨_, rfl, Or.inl q2000⟩
def zco13 : Nat × String := (14, "java/lang/Object")
theorem zco13_g : zco_good zco13 := ⟨_, rfl, Or.inl q2004⟩
def zco14 : Nat × String := (8, "java/lang/Comparable")
theorem zco14_g : zco_good zco14 := ⟨_, rfl, Or.inl q1182⟩
def zco15 : Nat × String := (8, "java/lang/Object")
theorem zco15_g : zco_good zco15 := ⟨_, rfl, Or.inl q2008⟩
def zco16 : Nat × String := (9, "java/lang/Object")
theorem zco16_g : zco_good zco16 := ⟨_, rfl, Or.inl q1981⟩
def zco17 : Nat × String := (15, "java/lang/Object")
theorem zco17_g : zco_good zco17 := ⟨_, rfl, Or.inl q2009⟩
def zco18 : Nat × String := (7, "java/lang/Object")
theorem zco18_g : zco_good zco18 := ⟨_, rfl, Or.inl q2010⟩
def zco19 : Nat × String := (10, "Foundrymark$Lack")
theorem zco19_g : zco_good zco19 := ⟨_, rfl, Or.inl q1082⟩
def zco20 : Nat × String := (10, "java/lang/Object")
theorem zco20_g : zco_good zco20 := ⟨_, rfl, Or.inl q2011⟩
def zco21 : Nat × String := (11, "java/lang/Object")
theorem zco21_g : zco_good zco21 := ⟨_, rfl, Or.inl q1986⟩
def zco22 : Nat × String := (1, "java/lang/Object")
theorem zco22_g : zco_good zco22 := ⟨_, rfl, Or.inl q1989⟩
def zco23 : Nat × String := (12, "java/lang/Object")
theorem zco23_g : zco_good zco23 := ⟨_, rfl, Or.inl q1991⟩
def zco24 : Nat × String := (2, "Foundrymark$Part")
theorem zco24_g : zco_good zco24 := ⟨_, rfl, Or.inl q1980⟩
def zco25 : Nat × String := (2, "java/lang/Object")
theorem zco25_g : zco_good zco25 := ⟨_, rfl, Or.inl q1992⟩
def zco26 : Nat × String := (3, "Foundrymark$Part")
theorem zco26_g : zco_good zco26 := ⟨_, rfl, Or.inl q1979⟩
def zco27 : Nat × String := (3, "java/lang/Object")
theorem zco27_g : zco_good zco27 := ⟨_, rfl, Or.inl q1993⟩
def zco28 : Nat × String := (0, "Foundrymark")
theorem zco28_g : zco_good zco28 := ⟨_, rfl, Or.inr rfl⟩
def zco29 : Nat × String := (1, "Foundrymark$Machine")
theorem zco29_g : zco_good zco29 := ⟨_, rfl, Or.inr rfl⟩
def zco30 : Nat × String := (2, "Foundrymark$Made")
theorem zco30_g : zco_good zco30 := ⟨_, rfl, Or.inr rfl⟩
def zco31 : Nat × String := (3, "Foundrymark$Bought")
theorem zco31_g : zco_good zco31 := ⟨_, rfl, Or.inr rfl⟩
def zco32 : Nat × String := (4, "Foundrymark$Component")
theorem zco32_g : zco_good zco32 := ⟨_, rfl, Or.inr rfl⟩
def zco33 : Nat × String := (5, "Foundrymark$Operation")
theorem zco33_g : zco_good zco33 := ⟨_, rfl, Or.inr rfl⟩
def zco34 : Nat × String := (6, "Foundrymark$Lot")
theorem zco34_g : zco_good zco34 := ⟨_, rfl, Or.inr rfl⟩
def zco35 : Nat × String := (7, "Foundrymark$Taken")
theorem zco35_g : zco_good zco35 := ⟨_, rfl, Or.inr rfl⟩
def zco36 : Nat × String := (8, "Foundrymark$Order")
theorem zco36_g : zco_good zco36 := ⟨_, rfl, Or.inr rfl⟩
def zco37 : Nat × String := (9, "Foundrymark$Supplier")
theorem zco37_g : zco_good zco37 := ⟨_, rfl, Or.inr rfl⟩
def zco38 : Nat × String := (11, "FoundrymarkModel")
theorem zco38_g : zco_good zco38 := ⟨_, rfl, Or.inr rfl⟩
def zco39 : Nat × String := (12, "FoundrymarkModel$Machine")
theorem zco39_g : zco_good zco39 := ⟨_, rfl, Or.inr rfl⟩
def zco40 : Nat × String := (13, "FoundrymarkModel$Part")
theorem zco40_g : zco_good zco40 := ⟨_, rfl, Or.inr rfl⟩
def zco41 : Nat × String := (14, "FoundrymarkModel$Lot")
theorem zco41_g : zco_good zco41 := ⟨_, rfl, Or.inr rfl⟩
def zco42 : Nat × String := (15, "FoundrymarkModel$Order")
theorem zco42_g : zco_good zco42 := ⟨_, rfl, Or.inr rfl⟩
def zco43 : Nat × String := (16, "java/util/ArrayList")
theorem zco43_g : zco_good zco43 := ⟨_, rfl, Or.inr rfl⟩
def zco44 : Nat × String := (17, "java/util/ArrayList$Itr")
theorem zco44_g : zco_good zco44 := ⟨_, rfl, Or.inr rfl⟩
def zco45 : Nat × String := (18, "java/util/PriorityQueue")
theorem zco45_g : zco_good zco45 := ⟨_, rfl, Or.inr rfl⟩
def zco46 : Nat × String := (19, "java/lang/Integer")
theorem zco46_g : zco_good zco46 := ⟨_, rfl, Or.inr rfl⟩
def zcoL : List (Nat × String) := [zco0, zco1, zco2, zco3, zco4, zco5, zco6, zco7, zco8, zco9, zco10, zco11, zco12, zco13, zco14, zco15, zco16, zco17, zco18, zco19, zco20, zco21, zco22, zco23, zco24, zco25, zco26, zco27, zco28, zco29, zco30, zco31, zco32, zco33, zco34, zco35, zco36, zco37, zco38, zco39, zco40, zco41, zco42, zco43, zco44, zco45, zco46]
theorem zcoL_good : ∀ r ∈ zcoL, zco_good r := List.forall_mem_cons.mpr ⟨zco0_g, List.forall_mem_cons.mpr ⟨zco1_g, List.forall_mem_cons.mpr ⟨zco2_g, List.forall_mem_cons.mpr ⟨zco3_g, List.forall_mem_cons.mpr ⟨zco4_g, List.forall_mem_cons.mpr ⟨zco5_g, List.forall_mem_cons.mpr ⟨zco6_g, List.forall_mem_cons.mpr ⟨zco7_g, List.forall_mem_cons.mpr ⟨zco8_g, List.forall_mem_cons.mpr ⟨zco9_g, List.forall_mem_cons.mpr ⟨zco10_g, List.forall_mem_cons.mpr ⟨zco11_g, List.forall_mem_cons.mpr ⟨zco12_g, List.forall_mem_cons.mpr ⟨zco13_g, List.forall_mem_cons.mpr ⟨zco14_g, List.forall_mem_cons.mpr ⟨zco15_g, List.forall_mem_cons.mpr ⟨zco16_g, List.forall_mem_cons.mpr ⟨zco17_g, List.forall_mem_cons.mpr ⟨zco18_g, List.forall_mem_cons.mpr ⟨zco19_g, List.forall_mem_cons.mpr ⟨zco20_g, List.forall_mem_cons.mpr ⟨zco21_g, List.forall_mem_cons.mpr ⟨zco22_g, List.forall_mem_cons.mpr ⟨zco23_g, List.forall_mem_cons.mpr ⟨zco24_g, List.forall_mem_cons.mpr ⟨zco25_g, List.forall_mem_cons.mpr ⟨zco26_g, List.forall_mem_cons.mpr ⟨zco27_g, List.forall_mem_cons.mpr ⟨zco28_g, List.forall_mem_cons.mpr ⟨zco29_g, List.forall_mem_cons.mpr ⟨zco30_g, List.forall_mem_cons.mpr ⟨zco31_g, List.forall_mem_cons.mpr ⟨zco32_g, List.forall_mem_cons.mpr ⟨zco33_g, List.forall_mem_cons.mpr ⟨zco34_g, List.forall_mem_cons.mpr ⟨zco35_g, List.forall_mem_cons.mpr ⟨zco36_g, List.forall_mem_cons.mpr ⟨zco37_g, List.forall_mem_cons.mpr ⟨zco38_g, List.forall_mem_cons.mpr ⟨zco39_g, List.forall_mem_cons.mpr ⟨zco40_g, List.forall_mem_cons.mpr ⟨zco41_g, List.forall_mem_cons.mpr ⟨zco42_g, List.forall_mem_cons.mpr ⟨zco43_g, List.forall_mem_cons.mpr ⟨zco44_g, List.forall_mem_cons.mpr ⟨zco45_g, List.forall_mem_cons.mpr ⟨zco46_g, fun _ h => absurd h List.not_mem_nil⟩⟩⟩⟩⟩⟩⟩⟩⟩⟩⟩⟩⟩⟩⟩⟩⟩⟩⟩⟩⟩⟩⟩⟩⟩⟩⟩⟩⟩⟩⟩⟩⟩⟩⟩⟩⟩⟩⟩⟩⟩⟩⟩⟩⟩⟩⟩
def zco_at (ci : Nat) (E : String) : Bool := zcoL.any (fun r => r.1 == ci && r.2 == E)
theorem zco_at_ok {ci : Nat} {E : String} (h : zco_at ci E = true) : zco_good (ci, E) := by
  unfold zco_at at h
  obtain ⟨r, hr, h1⟩ := List.any_eq_true.mp h
  have h2 := zcoL_good r hr
  simp only [Bool.and_eq_true, beq_iff_eq] at h1
  obtain ⟨a, b⟩ := r
  obtain ⟨rfl, rfl⟩ := h1
  exact h2
/-- 'new': the class's number, its objects' slots, its fields as they are born -/
def zn_good (r : String × (Nat × Nat × List Value)) : Prop := ∃ (T : u_T) (N : Nat) (ty0 : Nat → FieldType), zc_ok zcl r.2.1 r.1 T N ty0 ∧ Cond.instantiable r.1 r.2.2.1 ∈ lw_all ∧ Cond.initialized r.1 ∈ lw_all ∧ ∀ j, j < N → defaultValue (ty0 j) = vp_V r.2.2.2 j
def zn0 : String × (Nat × Nat × List Value) := ("Foundrymark", (0, 10, [.null, .null, .null, .null, .null, .int 0, .int 0, .long 0, .long 0, .long 0]))
theorem zn0_g : zn_good zn0 := ⟨_, _, _, zcl_0, q91, q40, fun j hj => by
  match j, hj with
  | 0, _ => rfl
  | 1, _ => rfl
  | 2, _ => rfl
  | 3, _ => rfl
  | 4, _ => rfl
  | 5, _ => rfl
  | 6, _ => rfl
  | 7, _ => rfl
  | 8, _ => rfl
  | 9, _ => rfl
  | k + 10, h => exact absurd h (by omega)⟩
def zn1 : String × (Nat × Nat × List Value) := ("Foundrymark$Machine", (1, 12, [.int 0, .int 0, .int 0, .int 0, .null, .int 0, .int 0, .null, .int 0, .int 0, .int 0, .long 0]))
theorem zn1_g : zn_good zn1 := ⟨_, _, _, zcl_1, q445, q57, fun j hj => by
  match j, hj with
  | 0, _ => rfl
  | 1, _ => rfl
  | 2, _ => rfl
  | 3, _ => rfl
  | 4, _ => rfl
  | 5, _ => rfl
  | 6, _ => rfl
  | 7, _ => rfl
  | 8, _ => rfl
  | 9, _ => rfl
  | 10, _ => rfl
  | 11, _ => rfl
  | k + 12, h => exact absurd h (by omega)⟩
def zn2 : String × (Nat × Nat × List Value) := ("Foundrymark$Made", (2, 9, [.int 0, .int 0, .int 0, .int 0, .int 0, .int 0, .int 0, .null, .null]))
theorem zn2_g : zn_good zn2 := ⟨_, _, _, zcl_2, q611, q62, fun j hj => by
  match j, hj with
  | 0, _ => rfl
  | 1, _ => rfl
  | 2, _ => rfl
  | 3, _ => rfl
  | 4, _ => rfl
  | 5, _ => rfl
  | 6, _ => rfl
  | 7, _ => rfl
  | 8, _ => rfl
  | k + 9, h => exact absurd h (by omega)⟩
def zn3 : String × (Nat × Nat × List Value) := ("Foundrymark$Bought", (3, 7, [.int 0, .int 0, .int 0, .int 0, .int 0, .int 0, .int 0]))
theorem zn3_g : zn_good zn3 := ⟨_, _, _, zcl_3, q659, q63, fun j hj => by
  match j, hj with
  | 0, _ => rfl
  | 1, _ => rfl
  | 2, _ => rfl
  | 3, _ => rfl
  | 4, _ => rfl
  | 5, _ => rfl
  | 6, _ => rfl
  | k + 7, h => exact absurd h (by omega)⟩
def zn4 : String × (Nat × Nat × List Value) := ("Foundrymark$Component", (4, 3, [.int 0, .int 0, .int 0]))
theorem zn4_g : zn_good zn4 := ⟨_, _, _, zcl_4, q737, q71, fun j hj => by
  match j, hj with
  | 0, _ => rfl
  | 1, _ => rfl
  | 2, _ => rfl
  | k + 3, h => exact absurd h (by omega)⟩
def zn5 : String × (Nat × Nat × List Value) := ("Foundrymark$Operation", (5, 3, [.int 0, .int 0, .int 0]))
theorem zn5_g : zn_good zn5 := ⟨_, _, _, zcl_5, q766, q72, fun j hj => by
  match j, hj with
  | 0, _ => rfl
  | 1, _ => rfl
  | 2, _ => rfl
  | k + 3, h => exact absurd h (by omega)⟩
def zn6 : String × (Nat × Nat × List Value) := ("Foundrymark$Lot", (6, 8, [.int 0, .null, .int 0, .null, .int 0, .int 0, .long 0, .int 0]))
theorem zn6_g : zn_good zn6 := ⟨_, _, _, zcl_6, q795, q73, fun j hj => by
  match j, hj with
  | 0, _ => rfl
  | 1, _ => rfl
  | 2, _ => rfl
  | 3, _ => rfl
  | 4, _ => rfl
  | 5, _ => rfl
  | 6, _ => rfl
  | 7, _ => rfl
  | k + 8, h => exact absurd h (by omega)⟩
def zn7 : String × (Nat × Nat × List Value) := ("Foundrymark$Taken", (7, 3, [.null, .int 0, .long 0]))
theorem zn7_g : zn_good zn7 := ⟨_, _, _, zcl_7, q1061, q84, fun j hj => by
  match j, hj with
  | 0, _ => rfl
  | 1, _ => rfl
  | 2, _ => rfl
  | k + 3, h => exact absurd h (by omega)⟩
def zn8 : String × (Nat × Nat × List Value) := ("Foundrymark$Order", (8, 14, [.int 0, .null, .int 0, .int 0, .int 0, .null, .null, .null, .int 0, .int 0, .long 0, .int 0, .int 0, .null]))
theorem zn8_g : zn_good zn8 := ⟨_, _, _, zcl_8, q978, q82, fun j hj => by
  match j, hj with
  | 0, _ => rfl
  | 1, _ => rfl
  | 2, _ => rfl
  | 3, _ => rfl
  | 4, _ => rfl
  | 5, _ => rfl
  | 6, _ => rfl
  | 7, _ => rfl
  | 8, _ => rfl
  | 9, _ => rfl
  | 10, _ => rfl
  | 11, _ => rfl
  | 12, _ => rfl
  | 13, _ => rfl
  | k + 14, h => exact absurd h (by omega)⟩
def zn9 : String × (Nat × Nat × List Value) := ("Foundrymark$Supplier", (9, 2, [.null, .null]))
theorem zn9_g : zn_good zn9 := ⟨_, _, _, zcl_9, q129, q44, fun j hj => by
  match j, hj with
  | 0, _ => rfl
  | 1, _ => rfl
  | k + 2, h => exact absurd h (by omega)⟩
def zn10 : String × (Nat × Nat × List Value) := ("Foundrymark$Lack", (10, 6, [.null, .null, .null, .null, .null, .int 0]))
theorem zn10_g : zn_good zn10 := ⟨_, _, _, zcl_10, q1081, q85, fun j hj => by
  match j, hj with
  | 0, _ => rfl
  | 1, _ => rfl
  | 2, _ => rfl
  | 3, _ => rfl
  | 4, _ => rfl
  | 5, _ => rfl
  | k + 6, h => exact absurd h (by omega)⟩
def zn11 : String × (Nat × Nat × List Value) := ("FoundrymarkModel", (11, 9, [.int 0, .null, .null, .null, .null, .int 0, .null, .null, .int 0]))
theorem zn11_g : zn_good zn11 := ⟨_, _, _, zcl_11, q1458, q47, fun j hj => by
  match j, hj with
  | 0, _ => rfl
  | 1, _ => rfl
  | 2, _ => rfl
  | 3, _ => rfl
  | 4, _ => rfl
  | 5, _ => rfl
  | 6, _ => rfl
  | 7, _ => rfl
  | 8, _ => rfl
  | k + 9, h => exact absurd h (by omega)⟩
def zn12 : String × (Nat × Nat × List Value) := ("FoundrymarkModel$Machine", (12, 11, [.int 0, .int 0, .int 0, .int 0, .int 0, .int 0, .int 0, .int 0, .int 0, .null, .int 0]))
theorem zn12_g : zn_good zn12 := ⟨_, _, _, zcl_12, q1512, q60, fun j hj => by
  match j, hj with
  | 0, _ => rfl
  | 1, _ => rfl
  | 2, _ => rfl
  | 3, _ => rfl
  | 4, _ => rfl
  | 5, _ => rfl
  | 6, _ => rfl
  | 7, _ => rfl
  | 8, _ => rfl
  | 9, _ => rfl
  | 10, _ => rfl
  | k + 11, h => exact absurd h (by omega)⟩
def zn13 : String × (Nat × Nat × List Value) := ("FoundrymarkModel$Part", (13, 9, [.int 0, .int 0, .null, .null, .int 0, .int 0, .int 0, .int 0, .int 0]))
theorem zn13_g : zn_good zn13 := ⟨_, _, _, zcl_13, q1562, q64, fun j hj => by
  match j, hj with
  | 0, _ => rfl
  | 1, _ => rfl
  | 2, _ => rfl
  | 3, _ => rfl
  | 4, _ => rfl
  | 5, _ => rfl
  | 6, _ => rfl
  | 7, _ => rfl
  | 8, _ => rfl
  | k + 9, h => exact absurd h (by omega)⟩
def zn14 : String × (Nat × Nat × List Value) := ("FoundrymarkModel$Lot", (14, 7, [.int 0, .int 0, .int 0, .int 0, .long 0, .int 0, .null]))
theorem zn14_g : zn_good zn14 := ⟨_, _, _, zcl_14, q1629, q78, fun j hj => by
  match j, hj with
  | 0, _ => rfl
  | 1, _ => rfl
  | 2, _ => rfl
  | 3, _ => rfl
  | 4, _ => rfl
  | 5, _ => rfl
  | 6, _ => rfl
  | k + 7, h => exact absurd h (by omega)⟩
def zn15 : String × (Nat × Nat × List Value) := ("FoundrymarkModel$Order", (15, 17, [.int 0, .int 0, .int 0, .int 0, .int 0, .int 0, .null, .null, .int 0, .int 0, .int 0, .long 0, .null, .int 0, .int 0, .long 0, .null]))
theorem zn15_g : zn_good zn15 := ⟨_, _, _, zcl_15, q1751, q83, fun j hj => by
  match j, hj with
  | 0, _ => rfl
  | 1, _ => rfl
  | 2, _ => rfl
  | 3, _ => rfl
  | 4, _ => rfl
  | 5, _ => rfl
  | 6, _ => rfl
  | 7, _ => rfl
  | 8, _ => rfl
  | 9, _ => rfl
  | 10, _ => rfl
  | 11, _ => rfl
  | 12, _ => rfl
  | 13, _ => rfl
  | 14, _ => rfl
  | 15, _ => rfl
  | 16, _ => rfl
  | k + 17, h => exact absurd h (by omega)⟩
def zn16 : String × (Nat × Nat × List Value) := ("java/util/ArrayList", (16, 3, [.int 0, .null, .int 0]))
theorem zn16_g : zn_good zn16 := ⟨_, _, _, zcl_16, q99, q43, fun j hj => by
  match j, hj with
  | 0, _ => rfl
  | 1, _ => rfl
  | 2, _ => rfl
  | k + 3, h => exact absurd h (by omega)⟩
def zn17 : String × (Nat × Nat × List Value) := ("java/util/ArrayList$Itr", (17, 4, [.int 0, .int 0, .int 0, .null]))
theorem zn17_g : zn_good zn17 := ⟨_, _, _, zcl_17, q194, q79, fun j hj => by
  match j, hj with
  | 0, _ => rfl
  | 1, _ => rfl
  | 2, _ => rfl
  | 3, _ => rfl
  | k + 4, h => exact absurd h (by omega)⟩
def zn18 : String × (Nat × Nat × List Value) := ("java/util/PriorityQueue", (18, 4, [.null, .int 0, .null, .int 0]))
theorem zn18_g : zn_good zn18 := ⟨_, _, _, zcl_18, q451, q59, fun j hj => by
  match j, hj with
  | 0, _ => rfl
  | 1, _ => rfl
  | 2, _ => rfl
  | 3, _ => rfl
  | k + 4, h => exact absurd h (by omega)⟩
def zn19 : String × (Nat × Nat × List Value) := ("java/lang/Integer", (19, 1, [.int 0]))
theorem zn19_g : zn_good zn19 := ⟨_, _, _, zcl_19, q1841, q87, fun j hj => by
  match j, hj with
  | 0, _ => rfl
  | k + 1, h => exact absurd h (by omega)⟩
def znL : List (String × (Nat × Nat × List Value)) := [zn0, zn1, zn2, zn3, zn4, zn5, zn6, zn7, zn8, zn9, zn10, zn11, zn12, zn13, zn14, zn15, zn16, zn17, zn18, zn19]
theorem znL_good : ∀ r ∈ znL, zn_good r := List.forall_mem_cons.mpr ⟨zn0_g, List.forall_mem_cons.mpr ⟨zn1_g, List.forall_mem_cons.mpr ⟨zn2_g, List.forall_mem_cons.mpr ⟨zn3_g, List.forall_mem_cons.mpr ⟨zn4_g, List.forall_mem_cons.mpr ⟨zn5_g, List.forall_mem_cons.mpr ⟨zn6_g, List.forall_mem_cons.mpr ⟨zn7_g, List.forall_mem_cons.mpr ⟨zn8_g, List.forall_mem_cons.mpr ⟨zn9_g, List.forall_mem_cons.mpr ⟨zn10_g, List.forall_mem_cons.mpr ⟨zn11_g, List.forall_mem_cons.mpr ⟨zn12_g, List.forall_mem_cons.mpr ⟨zn13_g, List.forall_mem_cons.mpr ⟨zn14_g, List.forall_mem_cons.mpr ⟨zn15_g, List.forall_mem_cons.mpr ⟨zn16_g, List.forall_mem_cons.mpr ⟨zn17_g, List.forall_mem_cons.mpr ⟨zn18_g, List.forall_mem_cons.mpr ⟨zn19_g, fun _ h => absurd h List.not_mem_nil⟩⟩⟩⟩⟩⟩⟩⟩⟩⟩⟩⟩⟩⟩⟩⟩⟩⟩⟩⟩
def zn_at (C : String) : Option (Nat × Nat × List Value) := (znL.find? (fun r => r.1 == C)).map (·.2)
theorem zn_at_ok {C : String} {x : Nat × Nat × List Value} (h : zn_at C = some x) : zn_good (C, x) := by
  unfold zn_at at h
  cases hf : znL.find? (fun r => r.1 == C) with
  | none => rw [hf] at h; cases h
  | some r =>
    rw [hf] at h
    obtain rfl := Option.some.inj h
    have h1 := List.find?_some hf
    have h2 := znL_good r (List.mem_of_find?_eq_some hf)
    simp only [beq_iff_eq] at h1
    obtain ⟨a, x⟩ := r
    obtain rfl := h1
    exact h2
