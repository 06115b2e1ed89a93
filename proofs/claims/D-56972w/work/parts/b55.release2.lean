/-! THE SIMULATION: release, a new or a promised order, on both sides -/
set_option maxRecDepth 100000
section ZBZ2
variable {z : Nat → Nat} {k o : Nat} {X Y : hS}
theorem iAll.cp1 (hI : iAll z k X) (ho : o < sn X 8) (hmd : (sT X 8 1 o).toNat % 2 = 0) : 1 ≤ sT X 8 2 o ∧ ∀ j ∈ fComps X o, 1 ≤ sT X 4 1 j.toNat := by
  have h2 := (hI.or o ho).2.2.1
  refine ⟨h2.1, fun j hj => ?_⟩
  obtain ⟨p, hp, e1⟩ := (hI.or o ho).2.1
  rcases hI.pt.pc hp with ⟨q1, q2, q3⟩ | ⟨q1, q2, q3⟩
  · have e : fComps X o = sE X 24 (fPc X p / 2) := by
      unfold fComps
      rw [e1, Int.toNat_natCast, (hI.pt.2.2.2.1 _ q2).1, Int.toNat_natCast]
    rw [e] at hj
    have := hI.pt.2.2.2.2.2.1 _ q2 j hj
    have := hI.pt.2.2.2.2.2.2.1 j.toNat (by omega)
    omega
  · rw [e1, Int.toNat_natCast] at hmd
    omega
/-- the order promised, its pieces in its list, the others' lists as they were -/
theorem iDj_fRA (hI : iAll z k X) (hD : iDj X) (ho : o < sn X 8) (hmd : (sT X 8 1 o).toNat % 2 = 0) (hst : sT X 8 7 o = (z 0 : Nat)) : iDj (fRA z X o).1 := by
  obtain ⟨c1, c2⟩ := hI.cp1 ho hmd
  have hem : sE X 26 (fOL X o) = [] := (hI.em o ho).1 hst
  have core : ∀ T : hS, rkG (fOL X o) X T → iDj T := by
    intro T h
    obtain ⟨a1, a2, a3, a4, a5, ⟨x, a6, a7⟩, a8⟩ := h
    have e5 : ∀ q : Nat, fOL T q = fOL X q := fun q => congrArg Int.toNat (a4 8 5 q (by decide) (by omega))
    have e6 : ∀ q : Nat, fDelL T q = fDelL X q := fun q => congrArg Int.toNat (a4 8 6 q (by decide) (by omega))
    intro p q hp hq t ht u hu
    rw [a1 8 (by decide)] at hp hq
    rw [e6, a3 27 _ (by decide) (by omega)] at hu
    rw [e5] at ht
    by_cases e : fOL X p = fOL X o
    · rw [e, a6, hem, List.nil_append] at ht
      have hu6 := (hI.or q hq).2.2.2.2.2.2.1
      have := hI.tk.2.1 (fDelL X q) (by unfold fDelL; omega) u hu
      have := a7 t ht
      omega
    · rw [a3 26 _ (by decide) (fun w => e w.2)] at ht
      exact hD p q hp hq t ht u hu
  by_cases hok : (fRA z X o).2.1 = true
  · obtain ⟨T, e, h, -⟩ := raG hem c1 c2 hok
    rw [e]
    intro p q hp hq t ht u hu
    exact core T h p q hp hq t ht u hu
  · obtain ⟨T, e, h⟩ := raG0 (z := z) hem c1 c2 (by cases hh : (fRA z X o).2.1 with
      | true => exact absurd hh hok
      | false => rfl)
    rw [e]
    have hc := core T h
    intro p q hp hq t ht u hu
    rw [fTB_sn] at hp hq
    have e5 : ∀ q : Nat, fOL (fTakeBack T o) q = fOL T q := fun q => congrArg Int.toNat (fTB_sT (by omega))
    have e6 : ∀ q : Nat, fDelL (fTakeBack T o) q = fDelL T q := fun q => congrArg Int.toNat (fTB_sT (by omega))
    rw [e6, fTB_sE, if_neg (by omega)] at hu
    rw [e5, fTB_sE] at ht
    split at ht
    · exact absurd ht List.not_mem_nil
    · exact hc p q hp hq t ht u hu
/-- behind release's reserving -/
def rlP (z : Nat → Nat) (k o : Nat) (X Y T U : hS) : Prop := rR z T U ∧ iAll z k T ∧ iDj T ∧ mShape U ∧ mBox U ∧ mfr X T ∧ ffr Y U ∧ (∀ c : Nat, sn X c ≤ sn T c) ∧ (∀ c : Nat, sn Y c ≤ sn U c) ∧ sT U 11 0 0 = 0 ∧ sn T 8 = sn X 8 ∧ sT T 8 1 o = sT X 8 1 o
theorem pairRelT (hz : zInj z) (hR : rR z X Y) (hI : iAll z k X) (hD : iDj X) (hS : mShape Y) (hB : mBox Y) (ho : o < sn X 8) (hah : fAhead z X o = true) (hmd : (sT X 8 1 o).toNat % 2 = 0) :
    rlP z k o X Y (fRelT z X o).1 (mRelT Y o).1 ∧ (mRelT Y o).2.1 = (fRelT z X o).2.1 ∧ ((mRelT Y o).2.2.1 ≤ 2 * (fRelT z X o).2.2.1 ∧ (mRelT Y o).2.2.2 ≤ 2 * (fRelT z X o).2.2.2) ∧ ((fRelT z X o).2.1 = true → sT (fRelT z X o).1 8 7 o = (z 1 : Nat)) := by
  have e45 : (sT Y 15 5 o = 45) ↔ fStg z X o 0 = true := (hR.stIff hz ho (s := 0) (by decide)).trans ⟨fun h => decide_eq_true h, fun h => of_decide_eq_true h⟩
  have hRm := hR.frY hS hB (mfr.mt (v := 0))
  have hSm := hS.fr (mfr.mt (v := 0))
  have hBm := hB.fr (mfr.mt (v := 0))
  have t0 : sT (mt Y 0) 11 0 0 = 0 := by rw [sT_set, if_pos ⟨rfl, rfl, rfl⟩]
  unfold fRelT mRelT
  by_cases h0 : fStg z X o 0 = true
  · rw [if_pos h0, if_pos (e45.mpr h0)]
    have hst : sT X 8 7 o = (z 0 : Nat) := of_decide_eq_true h0
    obtain ⟨c1, c2, c3, c4, c5, c6, ⟨c7, c7'⟩, c8, c9, c10⟩ := pairRA hz hRm hI hSm hBm ho hst hmd
    have hem : sE X 26 (fOL X o) = [] := (hI.em o ho).1 hst
    obtain ⟨p1, p2⟩ := hI.cp1 ho hmd
    have n8 : sn (fRA z X o).1 8 = sn X 8 ∧ sT (fRA z X o).1 8 1 o = sT X 8 1 o ∧ ((fRA z X o).2.1 = true → sT (fRA z X o).1 8 7 o = (z 1 : Nat)) := by
      by_cases hok : (fRA z X o).2.1 = true
      · obtain ⟨T, e, h, -⟩ := raG hem p1 p2 hok
        rw [e]
        refine ⟨h.1 8 (by decide), ?_, fun _ => by rw [sT_set, if_pos ⟨rfl, rfl, rfl⟩]⟩
        rw [sT_set, if_neg (by omega)]
        exact h.2.2.2.1 8 1 o (by decide) (by omega)
      · obtain ⟨T, e, h⟩ := raG0 (z := z) hem p1 p2 (by cases hh : (fRA z X o).2.1 with
          | true => exact absurd hh hok
          | false => rfl)
        rw [e]
        refine ⟨by rw [fTB_sn]; exact h.1 8 (by decide), ?_, fun w => absurd w hok⟩
        rw [fTB_sT (by omega)]
        exact h.2.2.2.1 8 1 o (by decide) (by omega)
    exact ⟨⟨c1, c2, iDj_fRA hI hD ho hmd hst, c3, c4, c7, ffr.mt.trans c7', c8, c9, c10.trans t0, n8.1, n8.2.1⟩, c5, c6, n8.2.2⟩
  · rw [if_neg h0, if_neg (fun w => h0 (e45.mp w))]
    refine ⟨⟨hRm, hI, hD, hSm, hBm, mfr.refl, ffr.mt, fun _ => Nat.le_refl _, fun _ => Nat.le_refl _, t0, rfl, rfl⟩, rfl, ⟨Nat.zero_le _, Nat.zero_le _⟩, fun _ => ?_⟩
    unfold fAhead at hah
    rw [Bool.or_eq_true] at hah
    rcases hah with h | h
    · exact absurd h h0
    · exact of_decide_eq_true h
/-- all of a release -/
theorem pairRel (hz : zInj z) (hR : rR z X Y) (hI : iAll z k X) (hD : iDj X) (hS : mShape Y) (hB : mBox Y) (ho : o < sn X 8) (hah : fAhead z X o = true) (hmd : (sT X 8 1 o).toNat % 2 = 0) (hk : k ≤ 1000) (hok : (fRelT z X o).2.1 = true) :
    (rR z (fRelZ z (fRelU (fRelT z X o).1 o) o) (mRelZ (mRelU (mRelT Y o).1 o) o) ∧ iAll z (k + 1) (fRelZ z (fRelU (fRelT z X o).1 o) o) ∧ mShape (mRelZ (mRelU (mRelT Y o).1 o) o) ∧ mBox (mRelZ (mRelU (mRelT Y o).1 o) o)) ∧
    (mfr X (fRelZ z (fRelU (fRelT z X o).1 o) o) ∧ ffr Y (mRelZ (mRelU (mRelT Y o).1 o) o) ∧ (∀ c : Nat, sn X c ≤ sn (fRelZ z (fRelU (fRelT z X o).1 o) o) c) ∧ (∀ c : Nat, sn Y c ≤ sn (mRelZ (mRelU (mRelT Y o).1 o) o) c) ∧ sT (mRelZ (mRelU (mRelT Y o).1 o) o) 11 0 0 = 0) ∧
    fRelOk z (fRelT z X o).1 o ∧ mRelOk (mRelT Y o).1 o ∧ sn (mGoOn (mRelQ (mRelU (mRelT Y o).1 o) o) o) 12 ≤ 5 ∧ (sE (mRelU (mRelT Y o).1 o) 38 o).length ≤ 400 := by
  obtain ⟨⟨t1, t2, t3, t4, t5, t6, t7, t8, t9, t10, t11, t12⟩, -, -, tst⟩ := pairRelT hz hR hI hD hS hB ho hah hmd
  have hst := tst hok
  generalize (fRelT z X o).1 = T at *
  generalize (mRelT Y o).1 = U at *
  have ho' : o < sn T 8 := by rw [t11]; exact ho
  obtain ⟨⟨g1, g2, g3, g4, g5, g6, g7, g8, g9, g10, g11, g12, g13⟩, q1, q2⟩ := pairRelP hz t1 t2 t3 t4 t5 ho' hst (by rw [t12]; exact hmd) hk
  have hc := g2.co.2.2.2.2.2
  obtain ⟨b1, b2, b3, b4, b5, b6, b7, b8, b9, b10, -⟩ := pairBegAll hz g1 (g2.mono (Nat.le_succ _)) g3 g4 (by push_cast; omega) (sn (fGoOn z (fRelQ (fRelU T o) o) o) 1) (Nat.le_refl _)
  have e12 : sn (mGoOn (mRelQ (mRelU U o) o) o) 12 = sn (fGoOn z (fRelQ (fRelU T o) o) o) 1 := g1.M.1
  have fu : mfr T (fRelQ (fRelU T o) o) := by
    refine ⟨fun c _ => fRel_sn, fun c j i hc _ => ?_, fun c i _ => fRel_sE, Nat.le_of_eq (fRel_sn (c := 46)).symm, fun i _ => fRel_sE⟩
    unfold fRelQ
    rw [sT_set, if_neg (by rintro ⟨rfl, -⟩; exact absurd hc (by decide))]
    exact fRel_sT (by rintro ⟨rfl, -⟩; exact absurd hc (by decide)) (by rintro ⟨rfl, -⟩; exact absurd hc (by decide)) (by rintro ⟨rfl, -⟩; exact absurd hc (by decide))
  have mu : ffr U (mRelQ (mRelU U o) o) := by
    refine ⟨fun c _ => mRel_sn, fun c j i hc => ?_, fun c i _ => mRel_sE⟩
    unfold mRelQ
    rw [sT_set, if_neg (by rintro ⟨rfl, -⟩; exact absurd hc (by decide))]
    exact mRel_sT (by rintro ⟨rfl, -⟩; exact absurd hc (by decide)) (by rintro ⟨rfl, -⟩; exact absurd hc (by decide))
  have fn : ∀ c : Nat, sn (fRelQ (fRelU T o) o) c = sn T c := fun c => fRel_sn
  have mn : ∀ c : Nat, sn (mRelQ (mRelU U o) o) c = sn U c := fun c => mRel_sn
  have m11 : sT (mRelQ (mRelU U o) o) 11 0 0 = sT U 11 0 0 := by
    unfold mRelQ
    rw [sT_set, if_neg (by omega)]
    exact mRel_sT (by omega) (by omega)
  have e38 : sE (mRelU U o) 38 o = sE U 38 o := mRel_sE
  unfold fRelZ mRelZ
  rw [e12]
  refine ⟨⟨b1, b2, b3, b4⟩, ⟨(t6.trans fu).trans (g5.trans b8), (t7.trans mu).trans (g6.trans b9), fun c => ?_, fun c => ?_, ?_⟩, q1, q2, ?_, ?_⟩
  · rw [b6]
    have h1 := g7 c
    rw [fn] at h1
    exact Nat.le_trans (t8 c) h1
  · rw [b7]
    have h1 := g8 c
    rw [mn] at h1
    exact Nat.le_trans (t9 c) h1
  · rw [b10, g10, m11]; exact t10
  · exact g2.fix.2.2.2.2.2.2.2.2.2.1
  · rw [e38]
    exact (t1.len t2 (by rw [t1.O.1]; exact ho')).2.2
end ZBZ2
