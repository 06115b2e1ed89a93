/-! THE SIMULATION: a machine begins an order -/
set_option maxRecDepth 100000
section ZBV4
variable {z : Nat → Nat} {k m j : Nat} {X Y : hS}
theorem fB_1 {q i : Nat} : sT (fBegin z X m j) 1 q i = if i = m then (if q = 10 then sT X 0 6 0 + imax1 (fTime X m j) else if q = 9 then sT X 0 6 0 else if q = 5 then fFam X j else if q = 7 then (j : Int) else sT X 1 q m) else sT X 1 q i := by
  by_cases h : i = m
  · subst h
    rw [if_pos rfl]
    unfold fBegin
    simp only [sT_set, sT_ssE]
    by_cases h10 : q = 10
    · simp [h10]
    · by_cases h9 : q = 9
      · simp [h9]
      · by_cases h5 : q = 5
        · simp [h5]
        · by_cases h7 : q = 7
          · simp [h7]
          · simp [h10, h9, h5, h7]
  · rw [if_neg h, fBegin_sT (by omega) (by omega) (by omega)]
theorem fB_87 {i : Nat} : sT (fBegin z X m j) 8 7 i = if i = j then ((z 3 : Nat) : Int) else sT X 8 7 i := by
  by_cases h : i = j
  · rw [if_pos h, h, fBegin_stage]
  · rw [if_neg h, fBegin_sT (by omega) (by omega) (by omega)]
theorem fB_810 {i : Nat} : sT (fBegin z X m j) 8 10 i = if i = j then sT X 8 10 j + fBcost X m j else sT X 8 10 i := by
  by_cases h : i = j
  · rw [if_pos h, h]
    unfold fBegin
    rw [sT_set, if_neg (by omega), sT_set, if_pos ⟨rfl, rfl, rfl⟩]
  · rw [if_neg h, fBegin_sT (by omega) (by omega) (by omega)]
theorem fB_08 : sT (fBegin z X m j) 0 8 0 = sT X 0 8 0 + fBcost X m j := by
  unfold fBegin
  rw [sT_set, if_pos ⟨rfl, rfl, rfl⟩]
theorem fB_ceq {c : Nat} (h : c ≠ 0 ∧ c ≠ 1 ∧ c ≠ 8 ∧ c ≠ 45) : ceq X (fBegin z X m j) c := ⟨fBegin_sn, fun _ _ => fBegin_sT (by omega) (by omega) (by omega), fun _ => by rw [fBegin_sE, if_neg (by omega)]⟩
theorem mB_12 {q i : Nat} : sT (mBegin Y m j) 12 q i = if i = m then (if q = 7 then sT Y 11 8 0 + imax1 (mTime Y m j) else if q = 8 then sT Y 11 8 0 else if q = 9 then (j : Int) else if q = 6 then 111 else if q = 4 then mFam Y j else sT Y 12 q m) else sT Y 12 q i := by
  unfold mBegin
  simp only [sT_set]
  by_cases h : i = m
  · subst h
    rw [if_pos rfl]
    by_cases h7 : q = 7
    · simp [h7]
    · by_cases h8 : q = 8
      · simp [h8]
      · by_cases h9 : q = 9
        · simp [h9]
        · by_cases h6 : q = 6
          · simp [h6]
          · by_cases h4 : q = 4
            · simp [h4]
            · simp [h7, h8, h9, h6, h4]
  · simp [h]
theorem mB_15 {q i : Nat} : sT (mBegin Y m j) 15 q i = if i = j ∧ q = 5 then 111 else if i = j ∧ q = 11 then sT Y 15 11 j + mBcost Y m j else sT Y 15 q i := by
  unfold mBegin
  simp only [sT_set]
  by_cases h : i = j
  · subst h
    by_cases h5 : q = 5
    · simp [h5]
    · by_cases h11 : q = 11
      · simp [h11]
      · simp [h5, h11]
  · simp [h]
theorem mB_ceq {c : Nat} (h : c ≠ 12 ∧ c ≠ 15) : ceq Y (mBegin Y m j) c := by
  unfold mBegin
  exact (((((((ceq.refl.set h.1).set h.1).set h.1).set h.1).set h.1).set h.2).set h.2)
theorem mB_n {c : Nat} : sn (mBegin Y m j) c = sn Y c := rfl
theorem mB_E {c i : Nat} : sE (mBegin Y m j) c i = sE Y c i := rfl
/-- family, time and cost are equal, and small -/
theorem begEq (hR : rR z X Y) (hI : iAll z k X) (hS : mShape Y) (hm : m < sn X 1) (hj : j < sn X 8) (hq : fQok X j) :
    mFam Y j = fFam X j ∧ mTime Y m j = fTime X m j ∧ mBcost Y m j = fBcost X m j ∧ (0 ≤ fFam X j ∧ fFam X j ≤ 3) ∧ (1 ≤ imax1 (fTime X m j) ∧ imax1 (fTime X m j) ≤ 2050) ∧ (0 ≤ fBcost X m j ∧ fBcost X m j ≤ 41000) := by
  have hw : ∀ q : Nat, q < sn X 1 → 0 ≤ sT X 1 7 q → sT X 1 8 q = 0 := fun q hq h => ((hI.qw.2.1 q hq).2 h).1
  obtain ⟨-, -, k5, k46⟩ := mchEq hR hI.pt hI.mc hw hS hj hq.1.2 hq.2.1.2.1
  obtain ⟨⟨p, p1, p2, p3⟩, e2, e3, e4⟩ := (hR.O.2 j hj).1
  have hmd := hq.1.2
  rw [p3, Int.toNat_natCast] at hmd
  have hpc : pcl X p = 2 := by unfold pcl; omega
  have hP := hR.P.2 p p1
  have hfam : mFam Y j = fFam X j := by
    unfold mFam fFam
    rw [p2, p3, Int.toNat_natCast, Int.toNat_natCast, hP.2.1, hpc]
  have hx : pix X p < sn X 2 := by
    have := (hI.pt.1 p p1).2.1
    rw [hpc] at this
    exact this
  have hfr : 0 ≤ fFam X j ∧ fFam X j ≤ 3 := by
    unfold fFam
    rw [p3, Int.toNat_natCast]
    exact (hI.pt.2.2.2.2.1 2 (pix X p) (Or.inl rfl) hx).1
  have hM := hR.M.2 m hm
  have h88 : sT Y 15 8 j = sT X 8 8 j := (hR.O.2 j hj).2.1.2.1
  have c2 : mCp Y (mOp Y j) 2 = sT X 5 2 (fOp X j) := by unfold mCp; rw [k46]; rfl
  have ht : mTime Y m j = fTime X m j := by
    unfold mTime fTime
    rw [hfam, hM.2.1, hM.1.2.1, c2, h88, Int.mul_comm]
  have hop := (hI.pt.2.2.2.2.2.2.2.2 (fOp X j) k5).2.2
  have hmm := (hI.mc.2.2 m hm).2.2.1
  have hmul0 : 0 ≤ sT X 8 8 j * sT X 5 2 (fOp X j) := Int.mul_nonneg hq.2.2.1 (by omega)
  have hmul1 : sT X 8 8 j * sT X 5 2 (fOp X j) ≤ 100 * 20 := Int.mul_le_mul hq.2.2.2 hop.2 (by omega) (by decide)
  have htr : fTime X m j ≤ 2050 := by
    unfold fTime
    split <;> omega
  have hi1 : 1 ≤ imax1 (fTime X m j) ∧ imax1 (fTime X m j) ≤ 2050 := by
    unfold imax1
    split <;> omega
  refine ⟨hfam, ht, ?_, hfr, hi1, ?_⟩
  · unfold mBcost fBcost
    rw [ht, hM.1.1]
  · unfold fBcost
    have a1 : 0 ≤ imax1 (fTime X m j) * sT X 1 0 m := Int.mul_nonneg (by omega) hmm.1.1
    have a2 : imax1 (fTime X m j) * sT X 1 0 m ≤ 2050 * 20 := Int.mul_le_mul hi1.2 hmm.1.2 hmm.1.1 (by decide)
    omega
end ZBV4
