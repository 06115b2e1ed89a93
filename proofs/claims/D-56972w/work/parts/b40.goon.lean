/-! THE SIMULATION: which machine an order goes to -/
set_option maxRecDepth 100000
theorem ceq.symm {X X' : hS} {c : Nat} (h : ceq X X' c) : ceq X' X c := ⟨h.1.symm, fun k i => (h.2.1 k i).symm, fun i => (h.2.2 i).symm⟩
section ZBV1
variable {z : Nat → Nat} {k o : Nat} {X Y : hS}
theorem jobs_eq (hR : rR z X Y) (hM : iMc X) (hw : ∀ m : Nat, m < sn X 1 → 0 ≤ sT X 1 7 m → sT X 1 8 m = 0) {q : Nat} (hq : q < sn X 1) : mJobs Y q = fJobs X q := by
  have e : fQ X q = sE X 45 q := by
    unfold fQ
    rw [(hM.2.2 q hq).1, Int.toNat_natCast]
  have h1 : mWc Y ((q : Nat) : Int) (sn Y 15) = (fQ X q).length := by
    rw [e]
    unfold mWc
    obtain ⟨g1, g2⟩ := hR.Q q hq
    refine len_perm g1 (fun x => (g2 x).trans ?_)
    rw [hR.O.1]
    unfold mWt
    constructor
    · rintro ⟨a1, a2, a3, a4⟩
      refine ⟨a1, a2, ?_⟩
      simp [a3, a4]
    · rintro ⟨a1, a2, a3⟩
      simp at a3
      exact ⟨a1, a2, a3.1, a3.2⟩
  have h2 : sT Y 12 6 q = fState X q := (hR.M.2 q hq).2.2.2.1
  unfold mJobs fJobs
  rw [h1, h2]
  unfold fState
  have h8 := (hM.2.2 q hq).2.1
  have hwq := hw q hq
  by_cases c8 : sT X 1 8 q = 1
  · rw [if_pos c8]
    by_cases c7 : sT X 1 7 q < 0
    · rw [if_pos c7, if_neg (by decide)]
    · have := hwq (by omega)
      omega
  · rw [if_neg c8]
    by_cases c7 : sT X 1 7 q < 0
    · rw [if_pos c7, if_pos c7, if_neg (by decide)]
    · rw [if_neg c7, if_neg c7, if_pos rfl]
/-- an order's operations, on both sides -/
theorem opsAt (hR : rR z X Y) (hP : iPt k X) (hS : mShape Y) (ho : o < sn X 8) (hm : (sT X 8 1 o).toNat % 2 = 0) : fOpL X o < sn X 2 ∧ (mOpL Y o).map (fun j => sE Y 46 j.toNat) = (sE X 25 (fOpL X o)).map (fun k => [sT X 5 0 k.toNat, sT X 5 1 k.toNat, sT X 5 2 k.toNat]) := by
  obtain ⟨⟨p, p1, p2, p3⟩, -⟩ := (hR.O.2 o ho).1
  have hp : p < sn Y 13 := by rw [hR.P.1]; exact p1
  obtain ⟨s1, s2, -⟩ := hS.2.1 p hp
  rw [p3, Int.toNat_natCast] at hm
  obtain ⟨g1, g2⟩ := (hR.P.2 p p1).2.2.2.2.2.2.2 hm
  rcases hP.pc p1 with ⟨q1, q2, q3⟩ | ⟨q1, q2, q3⟩
  · obtain ⟨l1, l2, -⟩ := hP.2.2.2.1 (fPc X p / 2) q2
    have e1 : mOpL Y o = sE Y 37 p := by
      unfold mOpL
      rw [p2, Int.toNat_natCast, s2, Int.toNat_natCast]
    have e2 : fOpL X o = pix X p := by
      unfold fOpL pix
      rw [p3, Int.toNat_natCast, l2, Int.toNat_natCast]
    rw [e1, e2]
    exact ⟨q2, g2⟩
  · omega
theorem mchEq (hR : rR z X Y) (hP : iPt k X) (hM : iMc X) (hw : ∀ m : Nat, m < sn X 1 → 0 ≤ sT X 1 7 m → sT X 1 8 m = 0) (hS : mShape Y) (ho : o < sn X 8) (hm : (sT X 8 1 o).toNat % 2 = 0) (hl : (sT X 8 9 o).toNat < (sE X 25 (fOpL X o)).length) :
    mMch Y (mOp Y o) = fMch X (fOp X o) ∧ fMch X (fOp X o) < sn X 1 ∧ fOp X o < sn X 5 ∧ sE Y 46 (mOp Y o) = [sT X 5 0 (fOp X o), sT X 5 1 (fOp X o), sT X 5 2 (fOp X o)] := by
  obtain ⟨w1, w2⟩ := opsAt hR hP hS ho hm
  have e9 : sT Y 15 9 o = sT X 8 9 o := (hR.O.2 o ho).2.1.2.2.1
  have hlen : (mOpL Y o).length = (sE X 25 (fOpL X o)).length := by
    have := congrArg List.length w2
    rw [List.length_map, List.length_map] at this
    exact this
  have hk : (sE X 25 (fOpL X o))[(sT X 8 9 o).toNat]? = some ((sE X 25 (fOpL X o))[(sT X 8 9 o).toNat]'hl) := List.getElem?_eq_getElem hl
  generalize (sE X 25 (fOpL X o))[(sT X 8 9 o).toNat]'hl = kk at hk
  have hj : (mOpL Y o)[(sT X 8 9 o).toNat]? = some ((mOpL Y o)[(sT X 8 9 o).toNat]'(by omega)) := List.getElem?_eq_getElem (by omega)
  generalize (mOpL Y o)[(sT X 8 9 o).toNat]'(by omega) = jj at hj
  have ek : fOp X o = kk.toNat := by
    unfold fOp
    rw [List.getD_eq_getElem?_getD, hk]; rfl
  have ej : mOp Y o = jj.toNat := by
    unfold mOp
    rw [e9, List.getD_eq_getElem?_getD, hj]; rfl
  have h46 : sE Y 46 jj.toNat = [sT X 5 0 kk.toNat, sT X 5 1 kk.toNat, sT X 5 2 kk.toNat] := by
    have e := congrArg (fun L => L[(sT X 8 9 o).toNat]?) w2
    simp only [List.getElem?_map, hk, hj, Option.map_some] at e
    exact Option.some.inj e
  have hk5 := hP.2.2.2.2.2.2.2.1 (fOpL X o) w1 kk (List.mem_of_getElem? hk)
  obtain ⟨o1, o2, o3⟩ := hP.2.2.2.2.2.2.2.2 kk.toNat (by omega)
  have c0 : mCp Y jj.toNat 0 = sT X 5 0 kk.toNat := by unfold mCp; rw [h46]; rfl
  have c1 : mCp Y jj.toNat 1 = sT X 5 1 kk.toNat := by unfold mCp; rw [h46]; rfl
  have J1 : mJobs Y (sT X 5 0 kk.toNat).toNat = fJobs X (fM1 X kk.toNat) := jobs_eq hR hM hw (q := (sT X 5 0 kk.toNat).toNat) (by omega)
  rw [ek, ej]
  refine ⟨?_, ?_, by omega, h46⟩
  · unfold mMch fMch
    rw [c0, c1, J1]
    by_cases h1 : sT X 5 1 kk.toNat = -1
    · have e2 : fM2 X kk.toNat = fM1 X kk.toNat := by unfold fM2; rw [if_pos h1]
      rw [e2, if_neg (fun w => w.1 h1), if_neg (by omega)]
      rfl
    · have e2 : fM2 X kk.toNat = (sT X 5 1 kk.toNat).toNat := by unfold fM2; rw [if_neg h1]
      have J2 : mJobs Y (sT X 5 1 kk.toNat).toNat = fJobs X (fM2 X kk.toNat) := by
        rw [e2]
        exact jobs_eq hR hM hw (q := (sT X 5 1 kk.toNat).toNat) (by omega)
      rw [J2]
      by_cases h2 : fJobs X (fM2 X kk.toNat) < fJobs X (fM1 X kk.toNat)
      · rw [if_pos ⟨h1, h2⟩, if_pos h2, e2]
      · rw [if_neg (fun w => h2 w.2), if_neg h2]
        rfl
  · have m1 : fM1 X kk.toNat < sn X 1 := by unfold fM1; omega
    have m2 : fM2 X kk.toNat < sn X 1 := by
      unfold fM2
      split
      · exact m1
      · omega
    unfold fMch
    split
    · exact m2
    · exact m1
end ZBV1
