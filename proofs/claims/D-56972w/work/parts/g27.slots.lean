/-! SLOTS: reserving makes four a cell, and what its lists' growth takes -/
set_option maxRecDepth 100000
def phF (e : Nat) : Nat := e * e + 11 * e
def phM (a b : Nat) : Nat := a * a + b * b + 11 * a
section ZG27
variable {z : Nat → Nat} {k o l m : Nat} {S T X Y : hS} {pt n : Int}
theorem sq1 (e : Nat) : (e + 1) * (e + 1) = e * e + 2 * e + 1 := by
  rw [Nat.add_mul, Nat.mul_add, Nat.mul_one, Nat.one_mul]
  omega
theorem fResS : ∀ j : Nat, (fResN S m pt n j).2.2.2 + phF (sE S 26 m).length ≤ 4 * (fResN S m pt n j).2.2.1 + phF (sE (fResN S m pt n j).1 26 m).length := by
  intro j
  induction j with
  | zero => exact Nat.le_refl _
  | succ j ih =>
    rw [fResN_succ]
    generalize fResN S m pt n j = F at *
    obtain ⟨T, left, a, b⟩ := F
    simp only at ih
    unfold fResStep
    simp only
    split
    · simp only
      have e : (sE (fTakeS T m j (fThere T pt left j)) 26 m).length = (sE T 26 m).length + 1 := by
        unfold fTakeS
        rw [sE_ssE, if_pos ⟨rfl, rfl⟩, List.length_append]; rfl
      have q := sq1 (sE T 26 m).length
      rw [e]
      unfold phF at *
      omega
    · simp only
      omega
theorem mResS : ∀ j : Nat, (mResN S o pt n j).2.2.2 + phM (sE S 38 o).length (sE S 39 o).length ≤ 4 * (mResN S o pt n j).2.2.1 + phM (sE (mResN S o pt n j).1 38 o).length (sE (mResN S o pt n j).1 39 o).length := by
  intro j
  induction j with
  | zero =>
    show 0 + phM (sE S 38 o).length (sE S 39 o).length ≤ 4 * 0 + phM (sE S 38 o).length (sE S 39 o).length
    exact Nat.le_refl _
  | succ j ih =>
    have sM : mResN S o pt n (j + 1) = mResStep o pt (mResN S o pt n j) j := by
      unfold mResN
      rw [List.range_succ, List.foldl_append]
      rfl
    rw [sM]
    generalize mResN S o pt n j = F at *
    obtain ⟨T, left, a, b⟩ := F
    simp only at ih
    unfold mResStep
    simp only
    split
    · exact ih
    · split
      · simp only
        have e1 : (sE (mTakeS T o j (mThere T pt left j)) 39 o).length = (sE T 39 o).length + 1 := by
          unfold mTakeS
          rw [sE_ssE, if_pos ⟨rfl, rfl⟩, List.length_append]; rfl
        have e2 : (sE (mTakeS T o j (mThere T pt left j)) 38 o).length = (sE T 38 o).length + 1 := by
          unfold mTakeS
          rw [sE_ssE, if_neg (by omega)]
          have e3 : sE (intS (mTakeA T o j (mThere T pt left j)) (mThere T pt left j)) 38 o = sE (mTakeA T o j (mThere T pt left j)) 38 o := by
            unfold intS
            split
            · rfl
            · show (snw _ 19 _).2.2.1 38 o = _
              unfold snw
              simp only
              rw [if_neg (by omega)]
              rfl
          rw [e3]
          unfold mTakeA
          rw [sE_ssE, if_pos ⟨rfl, rfl⟩, List.length_append]; rfl
        have q1 := sq1 (sE T 38 o).length
        have q2 := sq1 (sE T 39 o).length
        rw [e1, e2]
        unfold phM at *
        omega
      · simp only
        omega
theorem fRAS : ∀ L : List Int, ∀ s : fAst, (L.foldl (fRAstep o (fOL S o)) s).2.2.2 + 4 * s.2.2.1 + phF (sE s.1 26 (fOL S o)).length ≤ 4 * (L.foldl (fRAstep o (fOL S o)) s).2.2.1 + s.2.2.2 + phF (sE (L.foldl (fRAstep o (fOL S o)) s).1 26 (fOL S o)).length + 2 * L.length
  | [], s => by
    rw [List.foldl_nil, List.length_nil]
    omega
  | x :: L, s => by
    have ih := fRAS L (fRAstep o (fOL S o) s x)
    rw [List.foldl_cons, List.length_cons]
    have h1 : (fRAstep o (fOL S o) s x).2.2.2 + 4 * s.2.2.1 + phF (sE s.1 26 (fOL S o)).length ≤ 4 * (fRAstep o (fOL S o) s x).2.2.1 + s.2.2.2 + phF (sE (fRAstep o (fOL S o) s x).1 26 (fOL S o)).length + 2 := by
      unfold fRAstep
      split
      · omega
      · split
        · have := fResS (S := s.1) (m := fOL S o) (pt := sT s.1 4 0 x.toNat) (n := sT s.1 8 2 o * sT s.1 4 1 x.toNat) (sn s.1 6)
          simp only
          omega
        · omega
    omega
theorem mRAS : ∀ L : List Int, ∀ s : fAst, (L.foldl (mRAstep o) s).2.2.2 + 4 * s.2.2.1 + phM (sE s.1 38 o).length (sE s.1 39 o).length ≤ 4 * (L.foldl (mRAstep o) s).2.2.1 + s.2.2.2 + phM (sE (L.foldl (mRAstep o) s).1 38 o).length (sE (L.foldl (mRAstep o) s).1 39 o).length
  | [], s => by
    rw [List.foldl_nil]
    omega
  | x :: L, s => by
    have ih := mRAS L (mRAstep o s x)
    rw [List.foldl_cons]
    have h1 : (mRAstep o s x).2.2.2 + 4 * s.2.2.1 + phM (sE s.1 38 o).length (sE s.1 39 o).length ≤ 4 * (mRAstep o s x).2.2.1 + s.2.2.2 + phM (sE (mRAstep o s x).1 38 o).length (sE (mRAstep o s x).1 39 o).length := by
      unfold mRAstep
      split
      · omega
      · have := mResS (S := s.1) (o := o) (pt := mCp s.1 x.toNat 0) (n := mDue s.1 o x.toNat) (sn s.1 14)
        simp only
        omega
    omega
/-- a promise's slots: Foundrymark's side, the model's -/
theorem fRA_slots (hem : sE S 26 (fOL S o) = []) : (fRA z S o).2.2.2 ≤ 4 * (fRA z S o).2.2.1 + phF (sE (fRAN S o (fComps S o).length).1 26 (fOL S o)).length + 2 * (fComps S o).length := by
  have h := fRAS (S := S) (o := o) ((fComps S o).take (fComps S o).length) (S, true, 1, 4)
  have h0 : (sE (S, true, 1, 4).1 26 (fOL S o)).length = 0 := by
    show (sE S 26 (fOL S o)).length = 0
    rw [hem]; rfl
  rw [h0, List.take_length] at h
  have e : (fComps S o).foldl (fRAstep o (fOL S o)) (S, true, 1, 4) = fRAN S o (fComps S o).length := by
    unfold fRAN
    rw [List.take_length]
  rw [e] at h
  have h : (fRAN S o (fComps S o).length).2.2.2 + 4 * 1 + 0 ≤ 4 * (fRAN S o (fComps S o).length).2.2.1 + 4 + phF (sE (fRAN S o (fComps S o).length).1 26 (fOL S o)).length + 2 * (fComps S o).length := h
  unfold fRA
  split
  · show (fRAN S o (fComps S o).length).2.2.2 ≤ 4 * (fRAN S o (fComps S o).length).2.2.1 + _ + _
    omega
  · show (fRAN S o (fComps S o).length).2.2.2 + 4 ≤ 4 * ((fRAN S o (fComps S o).length).2.2.1 + 1) + _ + _
    omega
theorem mRA_slots (h1 : sE S 38 o = []) (h2 : sE S 39 o = []) : (mRA S o).2.2.2 ≤ 4 * (mRA S o).2.2.1 + phM (sE (mRAN S o (mComps S o).length).1 38 o).length (sE (mRAN S o (mComps S o).length).1 39 o).length := by
  have h := mRAS (o := o) ((mComps S o).take (mComps S o).length) (S, true, 1, 4)
  have h0 : phM (sE (S, true, 1, 4).1 38 o).length (sE (S, true, 1, 4).1 39 o).length = 0 := by
    show phM (sE S 38 o).length (sE S 39 o).length = 0
    rw [h1, h2]; rfl
  rw [h0, List.take_length] at h
  have e : (mComps S o).foldl (mRAstep o) (S, true, 1, 4) = mRAN S o (mComps S o).length := by
    unfold mRAN
    rw [List.take_length]
  rw [e] at h
  have h : (mRAN S o (mComps S o).length).2.2.2 + 4 * 1 + 0 ≤ 4 * (mRAN S o (mComps S o).length).2.2.1 + 4 + phM (sE (mRAN S o (mComps S o).length).1 38 o).length (sE (mRAN S o (mComps S o).length).1 39 o).length := h
  unfold mRA
  split
  · show (mRAN S o (mComps S o).length).2.2.2 ≤ 4 * (mRAN S o (mComps S o).length).2.2.1 + _
    omega
  · show (mRAN S o (mComps S o).length).2.2.2 ≤ 4 * (mRAN S o (mComps S o).length).2.2.1 + _
    omega
end ZG27
