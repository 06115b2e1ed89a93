/-! THE ROOM: deliveries in walks over a part's lots -/
set_option maxRecDepth 100000
section ZE7
variable {z : Nat → Nat} {k o l p : Nat} {S T X Y U : hS}
theorem same_part (hI : iAll z k X) (hp : p < np X) (hl : l < sn X 6) (e : sT X 8 1 o = fPc X p) : sT X 6 1 l = sT X 8 1 o ↔ ptL X l = p := by
  obtain ⟨q, hq, e1, e2, e3⟩ := ptL_at hI hl
  rw [e3, e1, e]
  constructor
  · intro w
    have w : fPc X q = fPc X p := by omega
    have h1 := (hI.pt.1 q hq).2.2
    have h2 := (hI.pt.1 p hp).2.2
    unfold pcl pix at h1 h2
    rw [w] at h1
    omega
  · rintro rfl
    rfl
theorem own_oth (hI : iAll z k X) (ho : o < sn X 8) (hp : p < np X) (e : sT X 8 1 o = fPc X p) (c : Nat) : ownC X o c + ns (sn X 6) (fun l => if oth X o l then nT X l + c else 0) ≤ sA X p + c * sn X 6 := by
  have hO := hI.or o ho
  have h13 := hO.2.2.2.2.2.2.2.2.2.2.1
  have h18 := hO.2.2.2.2.2.2.2.2.2.2.2.2.2.2.2.2
  have key : ownC X o c + ns (sn X 6) (fun l => if oth X o l then nT X l + c else 0) ≤ ns (sn X 6) (fun l => if ptL X l = p then nT X l + c else 0) := by
    unfold ownC
    by_cases h : sT X 8 13 o < 0
    · rw [if_pos h, Nat.zero_add]
      refine ns_le (fun l hl => ?_)
      by_cases w : oth X o l
      · rw [if_pos w, if_pos ((same_part hI hp hl e).mp w.1)]; exact Nat.le_refl _
      · rw [if_neg w]; exact Nat.zero_le _
    · rw [if_neg h]
      have hl0 : (sT X 8 13 o).toNat < sn X 6 := by omega
      rw [← ns_one (v := nT X (sT X 8 13 o).toNat + c) hl0, ← ns_add]
      refine ns_le (fun l hl => ?_)
      by_cases w : l = (sT X 8 13 o).toNat
      · have e1 : ptL X l = p := (same_part hI hp hl e).mp (by rw [w]; exact h18 (by omega))
        rw [if_pos w, if_neg (fun q => q.2 (by omega)), if_pos e1, w]
        omega
      · rw [if_neg w]
        by_cases q : oth X o l
        · rw [if_pos q, if_pos ((same_part hI hp hl e).mp q.1)]; omega
        · rw [if_neg q]; omega
  have e2 : ns (sn X 6) (fun l => if ptL X l = p then nT X l + c else 0) ≤ sA X p + ns (sn X 6) (fun _ => c) := by
    unfold sA pS
    rw [← ns_add]
    refine ns_le (fun l _ => ?_)
    by_cases w : ptL X l = p
    · rw [if_pos w, if_pos ⟨w, rfl⟩]; exact Nat.le_refl _
    · rw [if_neg w]; exact Nat.zero_le _
  have e3 : ns (sn X 6) (fun _ => c) = c * sn X 6 := by
    have : ∀ n : Nat, ns n (fun _ => c) = c * n := by
      intro n
      induction n with
      | zero => rfl
      | succ n ih =>
        show ns n (fun _ => c) + c = c * (n + 1)
        rw [ih, Nat.mul_succ]
    exact this _
  omega
/-- a delivery, both sides -/
theorem delC (hR : rR z S Y) (hI : iAll z k S) (ho : o < sn S 8) : ∃ p : Nat, p < np S ∧ sT S 8 1 o = fPc S p ∧ (fDlT S o).2.2.1 + (mSrc Y o).2.1 + (dNL S o (sn S 6)).length ≤ 2 * sA S p + 4 * sn S 6 + 5 := by
  obtain ⟨p, hp, e⟩ := (hI.or o ho).2.1
  refine ⟨p, hp, e, ?_⟩
  have h1 : (fDlT S o).2.2.1 ≤ _ := fDlC hI ho (sn S 6) (Nat.le_refl _)
  have e14 : sn Y 14 = sn S 6 := hR.L.1
  have eM : mSrc Y o = mSrcN Y o (sn S 6) := by unfold mSrc; rw [e14]
  have h2 := mSrcC hR hI ho (sn S 6) (Nat.le_refl _)
  have h3 := own_oth hI ho hp e 2
  have h4 := own_oth hI ho hp e 1
  have h5 : (dNL S o (sn S 6)).length ≤ 1 + sn S 6 := by
    unfold dNL
    refine Nat.le_trans (List.length_filter_le _ _) ?_
    unfold dCand
    rw [List.length_append]
    have a1 := List.length_filter_le (fun l => decide (sT S 6 1 l = sT S 8 1 o ∧ (l : Int) ≠ sT S 8 13 o)) (List.range (sn S 6))
    rw [List.length_range] at a1
    have a2 : (if sT S 8 13 o < 0 then ([] : List Nat) else [(sT S 8 13 o).toNat]).length ≤ 1 := by
      split
      · exact Nat.zero_le _
      · exact Nat.le_refl _
    omega
  rw [eM]
  omega
end ZE7
