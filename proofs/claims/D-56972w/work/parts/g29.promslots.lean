/-! SLOTS: a promise's, both sides -/
set_option maxRecDepth 100000
section ZG29
variable {z : Nat → Nat} {k o : Nat} {S X Y : hS}
/-- the model's two lists are as long as Foundrymark's -/
theorem rT_len (h : rT X Y o) : (sE Y 38 o).length = (sE X 26 (fOL X o)).length ∧ (sE Y 39 o).length = (sE X 26 (fOL X o)).length := by
  obtain ⟨h1, h2⟩ := h
  have e := congrArg List.length h1
  unfold mTl fTl mZs at e
  rw [List.length_map, List.length_map, List.length_zip] at e
  omega
theorem phF_mono {a b : Nat} (h : a ≤ b) : phF a ≤ phF b := by
  unfold phF
  have := Nat.mul_le_mul h h
  omega
theorem phM_mono {a b : Nat} (h : a ≤ b) : phM a a ≤ phM b b := by
  unfold phM
  have := Nat.mul_le_mul h h
  omega
theorem raS (hz : zInj z) (hR : rR z X Y) (hI : iAll z k X) (hS : mShape Y) (hB : mBox Y) (ho : o < sn X 8) (hst : sT X 8 7 o = (z 0 : Nat)) (hmd : (sT X 8 1 o).toNat % 2 = 0) :
    (fRA z X o).2.2.2 + (mRA Y o).2.2.2 ≤ 4 * ((fRA z X o).2.2.1 + (mRA Y o).2.2.1) + phF (2 * sn X 6 + 4) + phM (2 * sn X 6 + 4) (2 * sn X 6 + 4) + 8 := by
  have P := pairPr0 hz hR hI hS hB ho hst hmd
  have hem : sE X 26 (fOL X o) = [] := (hI.em o ho).1 hst
  have hmd' : (sT (sset X 8 7 o (z 1 : Nat)) 8 1 o).toNat % 2 = 0 := hmd
  obtain ⟨hcm, hc4⟩ := P.comps hmd'
  have hc4 : (fComps X o).length ≤ 4 := hc4
  have hcl : (mComps Y o).length = (fComps X o).length := by
    have e := congrArg List.length hcm
    rw [List.length_map, List.length_map] at e
    exact e
  obtain ⟨p1, p2⟩ := hI.cp1 ho hmd
  have hE := ranE (S := X) (o := o) hem p1 p2 (fComps X o).length (Nat.le_refl _)
  have hE : (sE (fRAN X o (fComps X o).length).1 26 (fOL X o)).length ≤ 2 * sn X 6 + 4 := by omega
  obtain ⟨a1, a2⟩ := rT_len (hR.O.2 o ho).2.2.1
  rw [hem] at a1 a2
  have a1 : sE Y 38 o = [] := List.eq_nil_of_length_eq_zero a1
  have a2 : sE Y 39 o = [] := List.eq_nil_of_length_eq_zero a2
  have f := fRA_slots (z := z) hem
  have m := mRA_slots a1 a2
  obtain ⟨r1, -, r3, -⟩ := pairRAN hz P hmd' hem (fComps X o).length (Nat.le_refl _)
  obtain ⟨b1, b2⟩ := rT_len (r1.1.O.2 o r1.2.2.2.2.1).2.2.1
  have eo : fOL (fRAN (sset X 8 7 o (z 1 : Nat)) o (fComps X o).length).1 o = fOL X o := r3.ol
  rw [eo, fRAN_sv, mRAN_sv] at b1 b2
  have b1 : (sE (mRAN Y o (fComps X o).length).1 38 o).length = (sE (fRAN X o (fComps X o).length).1 26 (fOL X o)).length := b1
  have b2 : (sE (mRAN Y o (fComps X o).length).1 39 o).length = (sE (fRAN X o (fComps X o).length).1 26 (fOL X o)).length := b2
  rw [hcl, b1, b2] at m
  have q1 := phF_mono hE
  have q2 := phM_mono hE
  omega
theorem nPrS (hz : zInj z) (hRr : rR z S S) (hI : iAll z k S) (hMS : mShape S) (hB : mBox S) (v : Int) : (nPr z S v).2 ≤ 4 * (nPr z S v).1 + phF (2 * sn S 6 + 4) + phM (2 * sn S 6 + 4) (2 * sn S 6 + 4) + 8 := by
  unfold nPr
  by_cases hc : cPr z S v = true
  · rw [if_pos hc]
    unfold cPr at hc
    rw [Bool.and_eq_true, Bool.and_eq_true] at hc
    obtain ⟨o, ho, ho8⟩ := idx (of_decide_eq_true hc.1)
    have eo : v.toNat = o := by omega
    rw [eo] at hc ⊢
    have hmd : (sT S 8 1 o).toNat % 2 = 0 := of_decide_eq_true hc.2.1
    have hst : sT S 8 7 o = (z 0 : Nat) := of_decide_eq_true hc.2.2
    have fm := (pairRA hz hRr hI hMS hB ho8 hst hmd).2.2.2.2.2.2.1.1
    have hm := fm.trans (mfr.mt (v := 0))
    exact raS hz (hRr.frY hMS hB hm) hI (hMS.fr hm) (hB.fr hm) ho8 hst hmd
  · rw [if_neg hc]; exact Nat.zero_le _
end ZG29
