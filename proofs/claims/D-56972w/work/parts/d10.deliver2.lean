/-! THE ROOM: deliver, the case; one step for all calls -/
set_option maxRecDepth 100000
section ZD10
variable {z : Nat → Nat} {k k2 o l : Nat} {X X' X2 S S2 T G U Y : hS}
theorem srcI (hR : rR z S Y) (hI : iAll z k S) (ho : o < sn S 8) : ffr Y (mSrc Y o).1 := by
  have e14 : sn Y 14 = sn S 6 := hR.L.1
  have eM : mSrc Y o = mSrcN Y o (sn S 6) := by unfold mSrc; rw [e14]
  rw [eM]
  exact (srcG hR hI ho (sn S 6) (Nat.le_refl _)).1.ffr
theorem stDl {v : Int} (hz : zInj z) (hRr : rR z S S) (hI : iAll z k S) (hMS : mShape S) (hB : mBox S) (hI2 : iAll z k2 S2) (hR : iRn z S) (h : pDl z S S2 v) : gRn z S S2 := by
  rcases h with ⟨v, rfl⟩ | ⟨hc, -, h⟩ | ⟨hc, -, h⟩
  · exact .mt hI hR
  · unfold cDl at hc
    rw [Bool.and_eq_true] at hc
    obtain ⟨o, ho, ho8⟩ := idx (of_decide_eq_true hc.1)
    have eo : v.toNat = o := by omega
    rw [eo] at hc h
    have pG : plG S (fDlT S o).1 := (dlG hI ho8 (sn S 6) (Nat.le_refl _)).1
    have hRT := hRr.frY hMS hB (pG.mfr.trans (mfr.mt (v := 0)))
    have hf := (ffr.mt (X := (fDlT S o).1) (v := 0)).trans (srcI hRT hI ho8)
    rw [← h] at hf
    exact (pG.rn hI hR).fr2 hf hI2
  · unfold cDl at hc
    rw [Bool.and_eq_true] at hc
    obtain ⟨o, ho, ho8⟩ := idx (of_decide_eq_true hc.1)
    have eo : v.toNat = o := by omega
    rw [eo] at hc h
    have pG : plG S (fDlT S o).1 := (dlG hI ho8 (sn S 6) (Nat.le_refl _)).1
    have gZ := dlZW hz pG hI hR ho8 hc.2
    have hRT := hRr.frY hMS hB ((pG.mfr.trans (dZ_mfr (z := z) (o := o) (mm := sn S 27))).trans (mfr.mt (v := 0)))
    have hf := ((ffr.mt (X := fDlZ z (fDlT S o).1 o (sn S 27)) (v := 0)).trans (srcI hRT hI ho8)).trans (mZ_ffr (o := o) (mm := sn (mt (fDlZ z (fDlT S o).1 o (sn S 27)) 0) 42))
    rw [← h] at hf
    exact gZ.fr2 hf hI2
end ZD10
