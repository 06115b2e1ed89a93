/-! THE SIMULATION: an order goes on, on both sides -/
set_option maxRecDepth 100000
section ZBY4
variable {z : Nat → Nat} {k o : Nat} {X Y : hS}
theorem fFi_mfr : mfr X (fFinish z X o) := by
  rw [fFi_def]
  split
  · unfold fFiB fAdd kFLot
    exact ((((((((((mfr.refl.set (Or.inl (by decide))).set (Or.inl (by decide))).snw (by decide)).set (Or.inl (by decide))).set (Or.inl (by decide))).set (Or.inl (by decide))).set (Or.inl (by decide))).set (Or.inl (by decide))).set (Or.inl (by decide))).ssE (by decide)).set (Or.inl (by decide))
  · unfold fFiA
    exact ((mfr.refl.set (Or.inl (by decide))).set (Or.inl (by decide))).set (Or.inl (by decide))
theorem mFi_ffr : ffr Y (mFin Y o) := by
  rw [mFin_def]
  split
  · unfold mFB mFinB mLotS kMLot mFinA
    exact ((((((((((((ffr.refl.set (by decide)).set (by decide)).snw (by decide)).snw (by decide)).set (by decide)).set (by decide)).set (by decide)).set (by decide)).set (by decide)).ssE (by decide)).set (by decide)).ssE (by decide))
  · unfold mFinA
    exact (ffr.refl.set (by decide)).set (by decide)
theorem fFi_sn (c : Nat) : sn X c ≤ sn (fFinish z X o) c := by
  rw [fFi_def]
  split
  · unfold fFiB fAdd kFLot
    exact sn_w_le (xs := []) (S := sset (sset X 8 7 o (z 4 : Nat)) 8 11 o (sT X 0 6 0)) (c := 6) (c' := c)
  · exact Nat.le_refl _
theorem mFi_sn (c : Nat) : sn Y c ≤ sn (mFin Y o) c := by
  rw [mFin_def]
  split
  · unfold mFB mFinB mLotS kMLot
    exact Nat.le_trans (sn_w_le (xs := []) (S := mFinA Y o) (c := 14) (c' := c)) (sn_w_le (xs := []) (S := snw (mFinA Y o) 14 []) (c := 41) (c' := c))
  · exact Nat.le_refl _
theorem mFi_11 {j i : Nat} : sT (mFin Y o) 11 j i = sT Y 11 j i := by
  rw [mFin_def]
  split
  · exact (mFb_c (by decide)).2.1 j i
  · exact (mA_c (by decide)).2.1 j i
theorem fFi_8 {j i : Nat} (h : ¬ ((j = 7 ∨ j = 11 ∨ j = 13) ∧ i = o)) : sT (fFinish z X o) 8 j i = sT X 8 j i := by
  rw [fFi_def]
  split
  · exact fB_8 h
  · exact fA_8 (by omega)
theorem fFi_0 {j i : Nat} (h : j ≠ 9) : sT (fFinish z X o) 0 j i = sT X 0 j i := by
  rw [fFi_def]
  split
  · exact (fB_c (by decide)).2.1 j i
  · exact fA_0 h
theorem fFi_c {c : Nat} (h : c ≠ 0 ∧ c ≠ 6 ∧ c ≠ 8 ∧ c ≠ 22) : ceq X (fFinish z X o) c := by
  rw [fFi_def]
  split
  · exact fB_c ⟨h.2.1, h.2.2.1, h.2.2.2⟩
  · exact fA_c ⟨h.1, h.2.2.1⟩
/-- what goOn leaves alone -/
def goP (z : Nat → Nat) (k o : Nat) (X Y X' Y' : hS) : Prop := rR z X' Y' ∧ iAll z k X' ∧ mShape Y' ∧ mBox Y' ∧ mfr X X' ∧ ffr Y Y' ∧ (∀ c : Nat, sn X c ≤ sn X' c) ∧ (∀ c : Nat, sn Y c ≤ sn Y' c) ∧ (∀ j i : Nat, j ≠ 9 → sT X' 0 j i = sT X 0 j i) ∧ (∀ j i : Nat, sT Y' 11 j i = sT Y 11 j i) ∧
  (∀ c : Nat, c ≠ 0 ∧ c ≠ 6 ∧ c ≠ 8 ∧ c ≠ 22 ∧ c ≠ 45 → ceq X X' c) ∧ (∀ j i : Nat, ¬ ((j = 7 ∨ j = 11 ∨ j = 13) ∧ i = o) → sT X' 8 j i = sT X 8 j i) ∧ sn X' 8 = sn X 8
theorem pairGoOn (hz : zInj z) (hR : rR z X Y) (hI : iAll z k (sset X 8 7 o (z 2 : Nat))) (hw : ∀ m : Nat, m < sn X 1 → 0 ≤ sT X 1 7 m → sT X 1 8 m = 0) (hS : mShape Y) (hB : mBox Y) (ho : o < sn X 8) (hs : ∃ s : Nat, s < 4 ∧ s ≠ 2 ∧ sT X 8 7 o = (z s : Nat)) (hmd : (sT X 8 1 o).toNat % 2 = 0) :
    goP z k o X Y (fGoOn z X o) (mGoOn Y o) := by
  have hP : iPt k X := hI.2.1.cg (ceq.symm (ceq.refl.set (by decide))) (ceq.symm (ceq.refl.set (by decide))) (ceq.symm (ceq.refl.set (by decide))) (ceq.symm (ceq.refl.set (by decide))) (ceq.symm (ceq.refl.set (by decide))) (ceq.symm (ceq.refl.set (by decide))) (ceq.symm (ceq.refl.set (by decide))) (Nat.le_refl _)
  have hM : iMc X := hI.2.2.1.cg (ceq.symm (ceq.refl.set (by decide))) (ceq.symm (ceq.refl.set (by decide))) rfl
  have hT : iTk X := hI.2.2.2.2.1.cg rfl (ceq.symm (ceq.refl.set (by decide))) (ceq.symm (ceq.refl.set (by decide))) (ceq.symm (ceq.refl.set (by decide)))
  have hO := hI.2.2.2.2.2.1 o ho
  have h2 : sT (sset X 8 7 o (z 2 : Nat)) 8 7 o = (z 2 : Nat) := by rw [sT_set, if_pos ⟨rfl, rfl, rfl⟩]
  have hq : ∀ m : Nat, m < sn X 1 → (o : Int) ∉ sE X 45 m := by
    intro j hj h
    obtain ⟨s, s4, s2, hs7⟩ := hs
    obtain ⟨s1, b1, b2, b3, -⟩ := (hR.O.2 o ho).2.1.1
    have es : s1 = s := hz s1 s (by omega) (by omega) (by omega)
    have q := ((hR.Q j hj).2 (o : Int)).mp h
    rw [Int.toNat_natCast, b3] at q
    have := stL_cases b1
    omega
  have e9 : sT Y 15 9 o = sT X 8 9 o := (hR.O.2 o ho).2.1.2.2.1
  have e8 : sT Y 15 8 o = sT X 8 8 o := (hR.O.2 o ho).2.1.2.1
  have hlen : (mOpL Y o).length = (sE X 25 (fOpL X o)).length := by
    obtain ⟨-, w2⟩ := opsAt hR hP hS ho hmd
    have := congrArg List.length w2
    rw [List.length_map, List.length_map] at this
    exact this
  unfold fGoOn mGoOn
  rw [e9, hlen]
  by_cases hl : (sT X 8 9 o).toNat < (sE X 25 (fOpL X o)).length
  · rw [if_pos hl, if_neg (show ¬ (sE X 25 (fOpL X o)).length ≤ (sT X 8 9 o).toNat by omega)]
    obtain ⟨m1, m2, m3, -⟩ := mchEq hR hP hM hw hS ho hmd hl
    have e4 : fQi X (fMch X (fOp X o)) = fMch X (fOp X o) := by
      unfold fQi
      rw [(hM.2.2 _ m2).1, Int.toNat_natCast]
    rw [m1, e4]
    generalize fMch X (fOp X o) = m at *
    obtain ⟨p1, p2, p3, p4⟩ := pairGoQ (m := m) hz hR hI hS hB ho hs hmd hl m2
    refine ⟨p1, p2, p3, p4, (mfr.refl.set (Or.inl (by decide))).ssE (by decide), (ffr.refl.set (by decide)).set (by decide), fun _ => Nat.le_refl _, fun _ => Nat.le_refl _, fun j i _ => ?_, fun j i => ?_, fun c hc => (ceq.refl.set hc.2.2.1).ssE hc.2.2.2.2, fun j i hj => ?_, rfl⟩
    · rw [sT_ssE, sT_set, if_neg (by omega)]
    · rw [sT_set, if_neg (by omega), sT_set, if_neg (by omega)]
    · rw [sT_ssE, sT_set, if_neg (by omega)]
  · rw [if_neg hl, if_pos (show (sE X 25 (fOpL X o)).length ≤ (sT X 8 9 o).toNat by omega)]
    have hs4 : ∃ s : Nat, s < 4 ∧ sT X 8 7 o = (z s : Nat) := by
      obtain ⟨s, s4, -, hs7⟩ := hs
      exact ⟨s, s4, hs7⟩
    have core : rR z (fFinish z X o) (mFin Y o) ∧ iAll z k (fFinish z X o) ∧ mShape (mFin Y o) ∧ mBox (mFin Y o) := by
      rw [fFi_def, mFin_def, e8]
      by_cases h88 : 0 < sT X 8 8 o
      · rw [if_pos h88, if_pos h88]
        have hIB : iAll z k (fFiB z X o) := by
          have := finInvB hz hI ho h2 hmd h88 hq
          rw [fFiB_sv] at this
          exact this
        have h5 := hO.2.2.2.2.2.1
        have h5' : 0 ≤ sT X 8 5 o ∧ sT X 8 5 o < (sn X 26 : Nat) := h5
        obtain ⟨r1, r2, r3⟩ := pairFinB hz hR hIB hT (by unfold fOL; omega) hS hB ho hs4 hmd (fun l hl => (hI.2.2.2.1 l hl).2.2.2.1) hq
        exact ⟨r1, hIB, r2, r3⟩
      · rw [if_neg h88, if_neg h88]
        have hIA : iAll z k (fFiA z X o) := by
          have := finInvA hz hI ho h2 hmd hq
          rw [fFiA_sv] at this
          exact this
        have h13 : sT X 8 13 o = -1 := hO.2.2.2.2.2.2.2.2.2.2.2.2.2.2.2.1 (by
          rw [h2]; intro e; exact absurd (hz 2 4 (by decide) (by decide) (by omega)) (by decide)) (by
          rw [h2]; intro e; exact absurd (hz 2 5 (by decide) (by decide) (by omega)) (by decide))
        obtain ⟨r1, r2, r3⟩ := pairFinA hz hR hS hB ho hs4 hmd h13 hq
        exact ⟨r1, hIA, r2, r3⟩
    obtain ⟨p1, p2, p3, p4⟩ := core
    refine ⟨p1, p2, p3, p4, fFi_mfr, mFi_ffr, fFi_sn, mFi_sn, fun j i h => fFi_0 h, fun j i => mFi_11, fun c hc => fFi_c ⟨hc.1, hc.2.1, hc.2.2.1, hc.2.2.2.1⟩, fun j i h => fFi_8 h, ?_⟩
    rw [fFi_def]
    split <;> rfl
end ZBY4
