/-! THE SIMULATION: a machine ends its job, on both sides -/
set_option maxRecDepth 100000
section ZCA1
variable {z : Nat → Nat} {k m o : Nat} {X Y : hS}
abbrev eBr (X : hS) (m : Nat) : Prop := sT X 1 2 m ≤ sT X 1 6 m + sT X 8 8 (fWk X m)
theorem fE2_T {c j i : Nat} : sT (fEnd2 X m) c j i = if c = 1 ∧ i = m then (if j = 7 then -1 else if j = 11 then sT X 1 11 m + (sT X 0 6 0 - sT X 1 9 m) else if j = 6 then (if eBr X m then 0 else sT X 1 6 m + sT X 8 8 (fWk X m)) else if j = 8 then (if eBr X m then 1 else sT X 1 8 m) else if j = 10 then (if eBr X m then sT X 0 6 0 + sT X 1 3 m else sT X 1 10 m) else sT X 1 j m) else sT X c j i := by
  unfold fEnd2
  have e1 : ∀ c j i : Nat, sT (fEnd1 X m) c j i = if c = 1 ∧ i = m then (if j = 7 then -1 else if j = 11 then sT X 1 11 m + (sT X 0 6 0 - sT X 1 9 m) else if j = 6 then sT X 1 6 m + sT X 8 8 (fWk X m) else sT X 1 j m) else sT X c j i := fun c j i => by
    unfold fEnd1
    rw [sT_set, sT_set, sT_set]
    by_cases hc : c = 1 ∧ i = m
    · obtain ⟨rfl, rfl⟩ := hc
      rw [if_pos (show 1 = 1 ∧ i = i from ⟨rfl, rfl⟩)]
      by_cases h7 : j = 7
      · subst h7; rw [if_neg (by omega), if_neg (by omega), if_pos ⟨rfl, rfl, rfl⟩, if_pos rfl]
      · by_cases h11 : j = 11
        · subst h11; rw [if_neg (by omega), if_pos ⟨rfl, rfl, rfl⟩, if_neg (by omega), if_pos rfl]
        · by_cases h6 : j = 6
          · subst h6; rw [if_pos ⟨rfl, rfl, rfl⟩, if_neg (by omega), if_neg (by omega), if_pos rfl]
          · rw [if_neg (by omega), if_neg (by omega), if_neg (by omega), if_neg h7, if_neg h11, if_neg h6]
    · rw [if_neg (by omega), if_neg (by omega), if_neg (by omega), if_neg hc]
  by_cases hb : eBr X m
  · rw [if_pos hb, sT_set, sT_set, sT_set, e1]
    by_cases hc : c = 1 ∧ i = m
    · obtain ⟨rfl, rfl⟩ := hc
      rw [if_pos (show 1 = 1 ∧ i = i from ⟨rfl, rfl⟩)]
      simp only [if_pos hb]
      by_cases h7 : j = 7
      · subst h7; rw [if_neg (by omega), if_neg (by omega), if_neg (by omega)]; rfl
      · by_cases h11 : j = 11
        · subst h11; rw [if_neg (by omega), if_neg (by omega), if_neg (by omega)]; rfl
        · by_cases h6 : j = 6
          · subst h6; rw [if_neg (by omega), if_neg (by omega), if_pos (by simp)]; rfl
          · by_cases h8 : j = 8
            · subst h8; rw [if_neg (by omega), if_pos (by simp)]; rfl
            · by_cases h10 : j = 10
              · subst h10; rw [if_pos (by simp)]; rfl
              · rw [if_neg (by omega), if_neg (by omega), if_neg (by omega)]
                simp [h7, h11, h6, h8, h10]
    · rw [if_neg (by omega), if_neg (by omega), if_neg (by omega), if_neg hc, if_neg hc]
  · rw [if_neg hb, e1]
    simp only [if_neg hb]
    by_cases hc : c = 1 ∧ i = m
    · rw [if_pos hc, if_pos hc]
      by_cases h7 : j = 7
      · subst h7; rfl
      · by_cases h11 : j = 11
        · subst h11; rfl
        · by_cases h6 : j = 6
          · subst h6; rfl
          · by_cases h8 : j = 8
            · subst h8; rfl
            · by_cases h10 : j = 10
              · subst h10; rfl
              · simp [h7, h11, h6, h8, h10]
    · rw [if_neg hc, if_neg hc]
theorem fE3_T {c j i : Nat} (h : ¬ (c = 8 ∧ j = 9 ∧ i = fWk X m)) : sT (fEnd3 X m) c j i = sT (fEnd2 X m) c j i := by
  unfold fEnd3
  rw [sT_set, if_neg h]
theorem fE3_89 : sT (fEnd3 X m) 8 9 (fWk X m) = sT X 8 9 (fWk X m) + 1 := by
  unfold fEnd3
  rw [sT_set, if_pos ⟨rfl, rfl, rfl⟩]
theorem fE3_n {c : Nat} : sn (fEnd3 X m) c = sn X c := fEnd3_sn
theorem fE3_E {c i : Nat} : sE (fEnd3 X m) c i = sE X c i := by
  show sE (fEnd2 X m) c i = _
  unfold fEnd2
  split <;> rfl
theorem fE3_c {c : Nat} (h : c ≠ 1 ∧ c ≠ 8) : ceq X (fEnd3 X m) c := ⟨fE3_n, fun j i => by rw [fE3_T (by omega), fE2_T, if_neg (by omega)], fun _ => fE3_E⟩
theorem fE3_8 {j i : Nat} (h : ¬ (j = 9 ∧ i = fWk X m)) : sT (fEnd3 X m) 8 j i = sT X 8 j i := by rw [fE3_T (by omega), fE2_T, if_neg (by omega)]
theorem fE3_1 {j i : Nat} (h : i ≠ m) : sT (fEnd3 X m) 1 j i = sT X 1 j i := by rw [fE3_T (by omega), fE2_T, if_neg (by omega)]
theorem fE3_m {j : Nat} : sT (fEnd3 X m) 1 j m = if j = 7 then -1 else if j = 11 then sT X 1 11 m + (sT X 0 6 0 - sT X 1 9 m) else if j = 6 then (if eBr X m then 0 else sT X 1 6 m + sT X 8 8 (fWk X m)) else if j = 8 then (if eBr X m then 1 else sT X 1 8 m) else if j = 10 then (if eBr X m then sT X 0 6 0 + sT X 1 3 m else sT X 1 10 m) else sT X 1 j m := by
  rw [fE3_T (by omega), fE2_T, if_pos ⟨rfl, rfl⟩]
/-- the model's -/
abbrev emBr (Y : hS) (m : Nat) : Prop := sT Y 12 2 m ≤ sT Y 12 5 m + sT Y 15 8 (mWk Y m)
theorem mE2_T {c j i : Nat} : sT (mEnd2 Y m) c j i = if c = 12 ∧ i = m then (if j = 10 then sT Y 12 10 m + (sT Y 11 8 0 - sT Y 12 8 m) else if j = 5 then (if emBr Y m then 0 else sT Y 12 5 m + sT Y 15 8 (mWk Y m)) else if j = 6 then (if emBr Y m then 98 else 45) else if j = 7 then (if emBr Y m then sT Y 11 8 0 + sT Y 12 3 m else sT Y 12 7 m) else sT Y 12 j m) else sT Y c j i := by
  unfold mEnd2
  have e1 : ∀ c j i : Nat, sT (mEnd1 Y m) c j i = if c = 12 ∧ i = m then (if j = 10 then sT Y 12 10 m + (sT Y 11 8 0 - sT Y 12 8 m) else if j = 5 then sT Y 12 5 m + sT Y 15 8 (mWk Y m) else if j = 6 then 45 else sT Y 12 j m) else sT Y c j i := fun c j i => by
    unfold mEnd1 mEnd0
    rw [sT_set, sT_set, sT_set]
    by_cases hc : c = 12 ∧ i = m
    · obtain ⟨rfl, rfl⟩ := hc
      rw [if_pos (show 12 = 12 ∧ i = i from ⟨rfl, rfl⟩)]
      by_cases h7 : j = 10
      · subst h7; rw [if_neg (by omega), if_pos ⟨rfl, rfl, rfl⟩, if_pos rfl]
      · by_cases h11 : j = 5
        · subst h11; rw [if_pos ⟨rfl, rfl, rfl⟩, if_neg (by omega), if_pos rfl]
        · by_cases h6 : j = 6
          · subst h6; rw [if_neg (by omega), if_neg (by omega), if_pos ⟨rfl, rfl, rfl⟩, if_neg (by omega), if_neg (by omega), if_pos rfl]
          · rw [if_neg (by omega), if_neg (by omega), if_neg (by omega), if_neg h7, if_neg h11, if_neg h6]
    · rw [if_neg (by omega), if_neg (by omega), if_neg (by omega), if_neg hc]
  by_cases hb : emBr Y m
  · rw [if_pos hb, sT_set, sT_set, sT_set, e1]
    by_cases hc : c = 12 ∧ i = m
    · obtain ⟨rfl, rfl⟩ := hc
      rw [if_pos (show 12 = 12 ∧ i = i from ⟨rfl, rfl⟩)]
      simp only [if_pos hb]
      by_cases h7 : j = 10
      · subst h7; rw [if_neg (by omega), if_neg (by omega), if_neg (by omega)]; rfl
      · by_cases h11 : j = 5
        · subst h11; rw [if_neg (by omega), if_neg (by omega), if_pos (by simp)]; rfl
        · by_cases h6 : j = 6
          · subst h6; rw [if_neg (by omega), if_pos (by simp)]; rfl
          · by_cases h8 : j = 7
            · subst h8; rw [if_pos (by simp)]; rfl
            · rw [if_neg (by omega), if_neg (by omega), if_neg (by omega)]
              simp [h7, h11, h6, h8]
    · rw [if_neg (by omega), if_neg (by omega), if_neg (by omega), if_neg hc, if_neg hc]
  · rw [if_neg hb, e1]
    simp only [if_neg hb]
    by_cases hc : c = 12 ∧ i = m
    · rw [if_pos hc, if_pos hc]
      by_cases h7 : j = 10
      · subst h7; rfl
      · by_cases h11 : j = 5
        · subst h11; rfl
        · by_cases h6 : j = 6
          · subst h6; rfl
          · by_cases h8 : j = 7
            · subst h8; rfl
            · simp [h7, h11, h6, h8]
    · rw [if_neg hc, if_neg hc]
theorem mE3_T {c j i : Nat} (h : ¬ (c = 15 ∧ j = 9 ∧ i = mWk Y m)) : sT (mEnd3 Y m) c j i = sT (mEnd2 Y m) c j i := by
  unfold mEnd3
  rw [sT_set, if_neg h]
theorem mE3_159 : sT (mEnd3 Y m) 15 9 (mWk Y m) = sT Y 15 9 (mWk Y m) + 1 := by
  unfold mEnd3
  rw [sT_set, if_pos ⟨rfl, rfl, rfl⟩]
theorem mE3_n {c : Nat} : sn (mEnd3 Y m) c = sn Y c := by
  show sn (mEnd2 Y m) c = _
  unfold mEnd2
  split <;> rfl
theorem mE3_E {c i : Nat} : sE (mEnd3 Y m) c i = sE Y c i := by
  show sE (mEnd2 Y m) c i = _
  unfold mEnd2
  split <;> rfl
theorem mE3_c {c : Nat} (h : c ≠ 12 ∧ c ≠ 15) : ceq Y (mEnd3 Y m) c := ⟨mE3_n, fun j i => by rw [mE3_T (by omega), mE2_T, if_neg (by omega)], fun _ => mE3_E⟩
theorem mE3_15 {j i : Nat} (h : ¬ (j = 9 ∧ i = mWk Y m)) : sT (mEnd3 Y m) 15 j i = sT Y 15 j i := by rw [mE3_T (by omega), mE2_T, if_neg (by omega)]
theorem mE3_12 {j i : Nat} (h : i ≠ m) : sT (mEnd3 Y m) 12 j i = sT Y 12 j i := by rw [mE3_T (by omega), mE2_T, if_neg (by omega)]
theorem mE3_m {j : Nat} : sT (mEnd3 Y m) 12 j m = if j = 10 then sT Y 12 10 m + (sT Y 11 8 0 - sT Y 12 8 m) else if j = 5 then (if emBr Y m then 0 else sT Y 12 5 m + sT Y 15 8 (mWk Y m)) else if j = 6 then (if emBr Y m then 98 else 45) else if j = 7 then (if emBr Y m then sT Y 11 8 0 + sT Y 12 3 m else sT Y 12 7 m) else sT Y 12 j m := by
  rw [mE3_T (by omega), mE2_T, if_pos ⟨rfl, rfl⟩]
end ZCA1
