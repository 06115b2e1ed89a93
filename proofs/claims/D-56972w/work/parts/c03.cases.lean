/-! THE ROOM: a structure's numbers are below the tables -/
set_option maxRecDepth 100000
theorem ckR_all : ∀ i c1 f : Nat, i < 2 → 1 ≤ c1 → c1 + f ≤ 4 → allN 63 (ckR (2 * i) c1 (tJ i f) (tJ i (c1 + f))) = true := by
  intro i c1 f hi h1 h4
  have h : (i = 0 ∨ i = 1) ∧ ((c1 = 1 ∧ f = 0) ∨ (c1 = 1 ∧ f = 1) ∨ (c1 = 1 ∧ f = 2) ∨ (c1 = 1 ∧ f = 3) ∨ (c1 = 2 ∧ f = 0) ∨ (c1 = 2 ∧ f = 1) ∨ (c1 = 2 ∧ f = 2) ∨ (c1 = 3 ∧ f = 0) ∨ (c1 = 3 ∧ f = 1) ∨ (c1 = 4 ∧ f = 0)) := by omega
  obtain ⟨rfl | rfl, h⟩ := h
  · rcases h with ⟨rfl, rfl⟩ | ⟨rfl, rfl⟩ | ⟨rfl, rfl⟩ | ⟨rfl, rfl⟩ | ⟨rfl, rfl⟩ | ⟨rfl, rfl⟩ | ⟨rfl, rfl⟩ | ⟨rfl, rfl⟩ | ⟨rfl, rfl⟩ | ⟨rfl, rfl⟩
    · exact ckR_0_1_0
    · exact ckR_0_1_1
    · exact ckR_0_1_2
    · exact ckR_0_1_3
    · exact ckR_0_2_0
    · exact ckR_0_2_1
    · exact ckR_0_2_2
    · exact ckR_0_3_0
    · exact ckR_0_3_1
    · exact ckR_0_4_0
  · rcases h with ⟨rfl, rfl⟩ | ⟨rfl, rfl⟩ | ⟨rfl, rfl⟩ | ⟨rfl, rfl⟩ | ⟨rfl, rfl⟩ | ⟨rfl, rfl⟩ | ⟨rfl, rfl⟩ | ⟨rfl, rfl⟩ | ⟨rfl, rfl⟩ | ⟨rfl, rfl⟩
    · exact ckR_1_1_0
    · exact ckR_1_1_1
    · exact ckR_1_1_2
    · exact ckR_1_1_3
    · exact ckR_1_2_0
    · exact ckR_1_2_1
    · exact ckR_1_2_2
    · exact ckR_1_3_0
    · exact ckR_1_3_1
    · exact ckR_1_4_0
theorem ckS_all : ∀ i c1 f : Nat, i < 2 → 1 ≤ c1 → c1 + f ≤ 4 → allN 63 (ckS (2 * i) c1 (tJ i f) (tJ i (c1 + f)) (tM c1)) = true := by
  intro i c1 f hi h1 h4
  have h : (i = 0 ∨ i = 1) ∧ ((c1 = 1 ∧ f = 0) ∨ (c1 = 1 ∧ f = 1) ∨ (c1 = 1 ∧ f = 2) ∨ (c1 = 1 ∧ f = 3) ∨ (c1 = 2 ∧ f = 0) ∨ (c1 = 2 ∧ f = 1) ∨ (c1 = 2 ∧ f = 2) ∨ (c1 = 3 ∧ f = 0) ∨ (c1 = 3 ∧ f = 1) ∨ (c1 = 4 ∧ f = 0)) := by omega
  obtain ⟨rfl | rfl, h⟩ := h
  · rcases h with ⟨rfl, rfl⟩ | ⟨rfl, rfl⟩ | ⟨rfl, rfl⟩ | ⟨rfl, rfl⟩ | ⟨rfl, rfl⟩ | ⟨rfl, rfl⟩ | ⟨rfl, rfl⟩ | ⟨rfl, rfl⟩ | ⟨rfl, rfl⟩ | ⟨rfl, rfl⟩
    · exact ckS_0_1_0
    · exact ckS_0_1_1
    · exact ckS_0_1_2
    · exact ckS_0_1_3
    · exact ckS_0_2_0
    · exact ckS_0_2_1
    · exact ckS_0_2_2
    · exact ckS_0_3_0
    · exact ckS_0_3_1
    · exact ckS_0_4_0
  · rcases h with ⟨rfl, rfl⟩ | ⟨rfl, rfl⟩ | ⟨rfl, rfl⟩ | ⟨rfl, rfl⟩ | ⟨rfl, rfl⟩ | ⟨rfl, rfl⟩ | ⟨rfl, rfl⟩ | ⟨rfl, rfl⟩ | ⟨rfl, rfl⟩ | ⟨rfl, rfl⟩
    · exact ckS_1_1_0
    · exact ckS_1_1_1
    · exact ckS_1_1_2
    · exact ckS_1_1_3
    · exact ckS_1_2_0
    · exact ckS_1_2_1
    · exact ckS_1_2_2
    · exact ckS_1_3_0
    · exact ckS_1_3_1
    · exact ckS_1_4_0
theorem ckL_all : ∀ c1 f : Nat, 1 ≤ c1 → c1 + f ≤ 4 → allN 63 (ckL c1 (tL f) (tL (c1 + f))) = true := by
  intro c1 f h1 h4
  have h : (c1 = 1 ∧ f = 0) ∨ (c1 = 1 ∧ f = 1) ∨ (c1 = 1 ∧ f = 2) ∨ (c1 = 1 ∧ f = 3) ∨ (c1 = 2 ∧ f = 0) ∨ (c1 = 2 ∧ f = 1) ∨ (c1 = 2 ∧ f = 2) ∨ (c1 = 3 ∧ f = 0) ∨ (c1 = 3 ∧ f = 1) ∨ (c1 = 4 ∧ f = 0) := by omega
  rcases h with ⟨rfl, rfl⟩ | ⟨rfl, rfl⟩ | ⟨rfl, rfl⟩ | ⟨rfl, rfl⟩ | ⟨rfl, rfl⟩ | ⟨rfl, rfl⟩ | ⟨rfl, rfl⟩ | ⟨rfl, rfl⟩ | ⟨rfl, rfl⟩ | ⟨rfl, rfl⟩
  · exact ckL_1_0
  · exact ckL_1_1
  · exact ckL_1_2
  · exact ckL_1_3
  · exact ckL_2_0
  · exact ckL_2_1
  · exact ckL_2_2
  · exact ckL_3_0
  · exact ckL_3_1
  · exact ckL_4_0
theorem ckL2_all : ∀ c1 f : Nat, 1 ≤ c1 → c1 + f ≤ 4 → allN 63 (ckL2 c1 (tL f) (tL (c1 + f))) = true := by
  intro c1 f h1 h4
  have h : (c1 = 1 ∧ f = 0) ∨ (c1 = 1 ∧ f = 1) ∨ (c1 = 1 ∧ f = 2) ∨ (c1 = 1 ∧ f = 3) ∨ (c1 = 2 ∧ f = 0) ∨ (c1 = 2 ∧ f = 1) ∨ (c1 = 2 ∧ f = 2) ∨ (c1 = 3 ∧ f = 0) ∨ (c1 = 3 ∧ f = 1) ∨ (c1 = 4 ∧ f = 0) := by omega
  rcases h with ⟨rfl, rfl⟩ | ⟨rfl, rfl⟩ | ⟨rfl, rfl⟩ | ⟨rfl, rfl⟩ | ⟨rfl, rfl⟩ | ⟨rfl, rfl⟩ | ⟨rfl, rfl⟩ | ⟨rfl, rfl⟩ | ⟨rfl, rfl⟩ | ⟨rfl, rfl⟩
  · exact ckL2_1_0
  · exact ckL2_1_1
  · exact ckL2_1_2
  · exact ckL2_1_3
  · exact ckL2_2_0
  · exact ckL2_2_1
  · exact ckL2_2_2
  · exact ckL2_3_0
  · exact ckL2_3_1
  · exact ckL2_4_0
theorem ckM_all : ∀ c1 : Nat, 1 ≤ c1 → c1 ≤ 4 → allN 63 (ckM c1 (tM c1)) = true := by
  intro c1 h1 h4
  have h : c1 = 1 ∨ c1 = 2 ∨ c1 = 3 ∨ c1 = 4 := by omega
  rcases h with rfl | rfl | rfl | rfl
  · exact ckM_1
  · exact ckM_2
  · exact ckM_3
  · exact ckM_4
theorem tJ_up : ∀ i c : Nat, i < 2 → 1 ≤ c → c ≤ 4 → allN 62 (ckG (tJ i (c - 1)) (tJ i c)) = true := by
  intro i c hi h1 h4
  have h : (i = 0 ∨ i = 1) ∧ (c = 1 ∨ c = 2 ∨ c = 3 ∨ c = 4) := by omega
  obtain ⟨rfl | rfl, rfl | rfl | rfl | rfl⟩ := h
  · exact ckG_0_1
  · exact ckG_0_2
  · exact ckG_0_3
  · exact ckG_0_4
  · exact ckG_1_1
  · exact ckG_1_2
  · exact ckG_1_3
  · exact ckG_1_4
theorem tL_up : ∀ c : Nat, 1 ≤ c → c ≤ 4 → allN 62 (fun K => Bool.rec false (Nat.ble (tat (tL (c - 1)) K) (tat (tL c) K)) (Nat.ble (tat (tL c) K) (tat (tL c) (Nat.succ K)))) = true := by
  intro c h1 h4
  have h : c = 1 ∨ c = 2 ∨ c = 3 ∨ c = 4 := by omega
  rcases h with rfl | rfl | rfl | rfl
  · exact ckLm_1
  · exact ckLm_2
  · exact ckLm_3
  · exact ckLm_4
