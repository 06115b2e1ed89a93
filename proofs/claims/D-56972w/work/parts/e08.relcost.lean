/-! THE ROOM: what a release costs, both sides -/
set_option maxRecDepth 100000
section ZE8
variable {z : Nat → Nat} {k o : Nat} {S X Y : hS} {v : Int}
theorem relC (hz : zInj z) (hR : rR z X Y) (hI : iAll z k X) (hS : mShape Y) (hB : mBox Y) (ho : o < sn X 8) (hmd : (sT X 8 1 o).toNat % 2 = 0) :
    (fRelT z X o).2.2.1 + (mRelT Y o).2.2.1 ≤ 2 * cW X o (fComps X o).length + 20 * sn X 6 + 11 := by
  have e45 : (sT Y 15 5 o = 45) ↔ fStg z X o 0 = true := (hR.stIff hz ho (s := 0) (by decide)).trans ⟨fun h => decide_eq_true h, fun h => of_decide_eq_true h⟩
  unfold fRelT mRelT
  by_cases h0 : fStg z X o 0 = true
  · rw [if_pos h0, if_pos (e45.mpr h0)]
    exact raC hz (hR.frY hS hB (mfr.mt (v := 0))) hI (hS.fr (mfr.mt (v := 0))) (hB.fr (mfr.mt (v := 0))) ho (of_decide_eq_true h0) hmd
  · rw [if_neg h0, if_neg (fun w => h0 (e45.mp w))]
    exact Nat.zero_le _
/-- the release's own case: nothing when the condition fails -/
theorem nRlC (hz : zInj z) (hR : rR z S S) (hI : iAll z k S) (hD : iDj S) (hS : mShape S) (hB : mBox S) (hk : k ≤ 1000) :
    (nRl z S v).1 = 0 ∨ (cRl z S v = true ∧ v.toNat < sn S 8 ∧ (sT S 8 1 v.toNat).toNat % 2 = 0 ∧ (nRl z S v).1 ≤ 2 * cW S v.toNat (fComps S v.toNat).length + 20 * sn S 6 + 11) := by
  by_cases hc : cRl z S v = true
  · have hcc := hc
    unfold cRl at hcc
    rw [Bool.and_eq_true, Bool.and_eq_true] at hcc
    obtain ⟨o, ho, ho8⟩ := idx (of_decide_eq_true hcc.1)
    have eo : v.toNat = o := by omega
    rw [eo] at hcc
    have hmd : (sT S 8 1 o).toNat % 2 = 0 := of_decide_eq_true hcc.2.1
    refine Or.inr ⟨hc, by rw [eo]; exact ho8, by rw [eo]; exact hmd, ?_⟩
    unfold nRl
    rw [if_pos hc, eo]
    by_cases hok : (fRelT z S o).2.1 = true
    · rw [if_pos hok]
      obtain ⟨-, ⟨t6, t7, t8, t9, t10⟩, -⟩ := pairRel hz hR hI hD hS hB ho8 hcc.2.2 hmd hk hok
      exact relC hz (hR.frY hS hB t6) hI (hS.fr t6) (hB.fr t6) ho8 hmd
    · rw [if_neg hok]
      obtain ⟨⟨t1, t2, t3, t4, t5, t6, -⟩, -⟩ := pairRelT hz hR hI hD hS hB ho8 hcc.2.2 hmd
      exact relC hz (hR.frY hS hB t6) hI (hS.fr t6) (hB.fr t6) ho8 hmd
  · left
    unfold nRl
    rw [if_neg hc]
end ZE8
