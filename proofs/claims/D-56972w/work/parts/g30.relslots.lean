/-! SLOTS: a release's, both sides -/
set_option maxRecDepth 100000
/-- what lists' growth takes while n lots are there -/
def phS (n : Nat) : Nat := phF (2 * n + 4) + phM (2 * n + 4) (2 * n + 4) + 8
section ZG30
variable {z : Nat → Nat} {k o : Nat} {S X Y : hS} {v : Int}
theorem relS (hz : zInj z) (hR : rR z X Y) (hI : iAll z k X) (hS : mShape Y) (hB : mBox Y) (ho : o < sn X 8) (hmd : (sT X 8 1 o).toNat % 2 = 0) :
    (fRelT z X o).2.2.2 + (mRelT Y o).2.2.2 ≤ 4 * ((fRelT z X o).2.2.1 + (mRelT Y o).2.2.1) + phS (sn X 6) := by
  have e45 : (sT Y 15 5 o = 45) ↔ fStg z X o 0 = true := (hR.stIff hz ho (s := 0) (by decide)).trans ⟨fun h => decide_eq_true h, fun h => of_decide_eq_true h⟩
  unfold fRelT mRelT
  by_cases h0 : fStg z X o 0 = true
  · rw [if_pos h0, if_pos (e45.mpr h0)]
    have h := raS hz (hR.frY hS hB (mfr.mt (v := 0))) hI (hS.fr (mfr.mt (v := 0))) (hB.fr (mfr.mt (v := 0))) ho (of_decide_eq_true h0) hmd
    unfold phS
    omega
  · rw [if_neg h0, if_neg (fun w => h0 (e45.mp w))]
    exact Nat.zero_le _
theorem nRlS (hz : zInj z) (hR : rR z S S) (hI : iAll z k S) (hD : iDj S) (hS : mShape S) (hB : mBox S) (hk : k ≤ 1000) :
    (nRl z S v).2 ≤ 4 * (nRl z S v).1 + phS (sn S 6) := by
  by_cases hc : cRl z S v = true
  · have hcc := hc
    unfold cRl at hcc
    rw [Bool.and_eq_true, Bool.and_eq_true] at hcc
    obtain ⟨o, ho, ho8⟩ := idx (of_decide_eq_true hcc.1)
    have eo : v.toNat = o := by omega
    rw [eo] at hcc
    have hmd : (sT S 8 1 o).toNat % 2 = 0 := of_decide_eq_true hcc.2.1
    unfold nRl
    rw [if_pos hc, eo]
    by_cases hok : (fRelT z S o).2.1 = true
    · rw [if_pos hok]
      obtain ⟨-, ⟨t6, t7, t8, t9, t10⟩, -⟩ := pairRel hz hR hI hD hS hB ho8 hcc.2.2 hmd hk hok
      exact relS hz (hR.frY hS hB t6) hI (hS.fr t6) (hB.fr t6) ho8 hmd
    · rw [if_neg hok]
      obtain ⟨⟨t1, t2, t3, t4, t5, t6, -⟩, -⟩ := pairRelT hz hR hI hD hS hB ho8 hcc.2.2 hmd
      exact relS hz (hR.frY hS hB t6) hI (hS.fr t6) (hB.fr t6) ho8 hmd
  · unfold nRl
    rw [if_neg hc]
    exact Nat.zero_le _
theorem nPrS' (hz : zInj z) (hRr : rR z S S) (hI : iAll z k S) (hMS : mShape S) (hB : mBox S) (v : Int) : (nPr z S v).2 ≤ 4 * (nPr z S v).1 + phS (sn S 6) := by
  have := nPrS hz hRr hI hMS hB v
  unfold phS
  omega
end ZG30
