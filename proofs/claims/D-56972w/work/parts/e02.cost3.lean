/-! THE ROOM: what a promise and a release cost, in walks over the lots of the components' parts -/
set_option maxRecDepth 100000
section ZE2
variable {z : Nat → Nat} {k o l m : Nat} {S T X Y : hS} {pt n v : Int}
theorem fWalk_sv2 : fWalk (sset X 8 7 o v) pt l = fWalk X pt l := by
  have e1 : fPnum (sset X 8 7 o v) l = fPnum X l := by
    unfold fPnum fLp
    rw [sT_set, if_neg (by omega), sT_set, if_neg (by omega)]
  unfold fWalk
  rw [e1]
  rfl
theorem cW_sv {p : Nat} : cW (sset X 8 7 o v) o p = cW X o p := by
  unfold cW
  have hc : fComps (sset X 8 7 o v) o = fComps X o := rfl
  rw [hc]
  congr 1
  exact List.map_congr_left (fun j _ => ns_cg (fun i _ => fWalk_sv2))
theorem raC (hz : zInj z) (hR : rR z X Y) (hI : iAll z k X) (hS : mShape Y) (hB : mBox Y) (ho : o < sn X 8) (hst : sT X 8 7 o = (z 0 : Nat)) (hmd : (sT X 8 1 o).toNat % 2 = 0) :
    (fRA z X o).2.2.1 + (mRA Y o).2.2.1 ≤ 2 * cW X o (fComps X o).length + 20 * sn X 6 + 11 := by
  have P := pairPr0 hz hR hI hS hB ho hst hmd
  have hem : sE X 26 (fOL X o) = [] := (hI.em o ho).1 hst
  have hmd' : (sT (sset X 8 7 o (z 1 : Nat)) 8 1 o).toNat % 2 = 0 := hmd
  obtain ⟨hcm, hc4⟩ := P.comps hmd'
  have hcl : (mComps Y o).length = (fComps X o).length := by
    have e := congrArg List.length hcm
    rw [List.length_map, List.length_map] at e
    exact e
  obtain ⟨c1, c2, c3⟩ := ranC hz P hmd' hem (fComps X o).length (Nat.le_refl _)
  have hc4 : (fComps X o).length ≤ 4 := hc4
  have e2 := (mRA_eq (U := Y) (o := o)).2.2
  rw [hcl] at e2
  rw [e2]
  have e3 : (fRA z X o).2.2.1 ≤ (fRAN X o (fComps X o).length).2.2.1 + 1 := by
    unfold fRA
    split
    · exact Nat.le_succ _
    · exact Nat.le_refl _
  have e4 : (fRAN (sset X 8 7 o (z 1 : Nat)) o (fComps X o).length).2 = (fRAN X o (fComps X o).length).2 := by rw [fRAN_sv]
  rw [e4, cW_sv] at c1
  rw [cW_sv] at c2
  have c3 : _ ≤ (fComps X o).length * sn X 6 := c3
  have h4 : (fComps X o).length * sn X 6 ≤ 4 * sn X 6 := Nat.mul_le_mul_right _ hc4
  omega
end ZE2
