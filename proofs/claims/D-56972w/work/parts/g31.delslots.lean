/-! SLOTS: a delivery's, both sides -/
set_option maxRecDepth 100000
section ZG31
variable {z : Nat → Nat} {k o : Nat} {S X Y : hS} {v : Int}
theorem plS {m l : Nat} {s : fRst} : (fPlanStep m s l).2.2.2 + 4 * s.2.2.1 + phF (sE s.1 27 m).length ≤ 4 * (fPlanStep m s l).2.2.1 + s.2.2.2 + phF (sE (fPlanStep m s l).1 27 m).length ∧ (sE (fPlanStep m s l).1 27 m).length ≤ (sE s.1 27 m).length + 1 := by
  obtain ⟨T, n, a, b⟩ := s
  unfold fPlanStep
  simp only
  unfold fPlanS fPlanC fPlanB
  by_cases h : 0 < fPlanT T l n
  · rw [if_pos h, if_pos h, if_pos h]
    have e : (sE (fTakeD T m l (fPlanT T l n)) 27 m).length = (sE T 27 m).length + 1 := by
      unfold fTakeD
      rw [sE_ssE, if_pos ⟨rfl, rfl⟩, List.length_append]; rfl
    have q := sq1 (sE T 27 m).length
    rw [e]
    unfold phF
    refine ⟨by omega, by omega⟩
  · rw [if_neg h, if_neg h, if_neg h]
    refine ⟨by omega, by omega⟩
theorem fDlS : ∀ p : Nat, (fDlN S o p).2.2.2 ≤ 4 * (fDlN S o p).2.2.1 + phF (sE (fDlN S o p).1 27 (sn S 27)).length ∧ (sE (fDlN S o p).1 27 (sn S 27)).length ≤ p + 1 := by
  intro p
  induction p with
  | zero =>
    show (fDl0 S o).2.2.2 ≤ 4 * (fDl0 S o).2.2.1 + phF (sE (fDl0 S o).1 27 (sn S 27)).length ∧ (sE (fDl0 S o).1 27 (sn S 27)).length ≤ 0 + 1
    have e0 : sE (snw S 27 []) 27 (sn S 27) = [] := by rw [sE_w, if_pos ⟨rfl, rfl⟩]
    unfold fDl0
    split
    · simp only
      rw [e0]
      exact ⟨by decide, by decide⟩
    · obtain ⟨h1, h2⟩ := plS (m := sn S 27) (l := (sT S 8 13 o).toNat) (s := (snw S 27 [], sT S 8 2 o, 2, 7))
      simp only at h1 h2
      rw [e0] at h1 h2
      have h1 : _ + 4 * 2 + 0 ≤ _ := h1
      have h2 : _ ≤ 0 + 1 := h2
      exact ⟨by omega, h2⟩
  | succ p ih =>
    obtain ⟨i1, i2⟩ := ih
    rw [fDlN_succ]
    unfold fDlStep
    split
    · obtain ⟨h1, h2⟩ := plS (m := sn S 27) (l := p) (s := fDlN S o p)
      exact ⟨by omega, by omega⟩
    · exact ⟨i1, by omega⟩
theorem srS {m l : Nat} {s : mEst} : (mSrcT s m l).2.2 + 4 * s.2.1 + phF (sE s.1 42 m).length ≤ 4 * (mSrcT s m l).2.1 + s.2.2 + phF (sE (mSrcT s m l).1 42 m).length ∧ (sE (mSrcT s m l).1 42 m).length ≤ (sE s.1 42 m).length + 1 := by
  obtain ⟨T, a, b⟩ := s
  unfold mSrcT
  split
  · simp only
    refine ⟨by omega, by omega⟩
  · simp only
    have e : (sE (ssE T 42 m (sE T 42 m ++ [(l : Int)])) 42 m).length = (sE T 42 m).length + 1 := by
      rw [sE_ssE, if_pos ⟨rfl, rfl⟩, List.length_append]; rfl
    have q := sq1 (sE T 42 m).length
    rw [e]
    unfold phF
    refine ⟨by omega, by omega⟩
theorem mSrS : ∀ p : Nat, (mSrcN S o p).2.2 ≤ 4 * (mSrcN S o p).2.1 + phF (sE (mSrcN S o p).1 42 (sn S 42)).length ∧ (sE (mSrcN S o p).1 42 (sn S 42)).length ≤ p + 1 := by
  intro p
  induction p with
  | zero =>
    show (mSrc0 S o).2.2 ≤ 4 * (mSrc0 S o).2.1 + phF (sE (mSrc0 S o).1 42 (sn S 42)).length ∧ (sE (mSrc0 S o).1 42 (sn S 42)).length ≤ 0 + 1
    have e0 : sE (snw S 42 []) 42 (sn S 42) = [] := by rw [sE_w, if_pos ⟨rfl, rfl⟩]
    unfold mSrc0
    split
    · simp only
      rw [e0]
      exact ⟨by decide, by decide⟩
    · obtain ⟨h1, h2⟩ := srS (m := sn S 42) (l := (sT S 15 12 o).toNat) (s := (snw S 42 [], 2, 7))
      simp only at h1 h2
      rw [e0] at h1 h2
      have h1 : _ + 4 * 2 + 0 ≤ _ := h1
      have h2 : _ ≤ 0 + 1 := h2
      exact ⟨by omega, h2⟩
  | succ p ih =>
    obtain ⟨i1, i2⟩ := ih
    rw [mSrcN_succ]
    unfold mSrcStep
    split
    · obtain ⟨h1, h2⟩ := srS (m := sn S 42) (l := p) (s := mSrcN S o p)
      exact ⟨by omega, by omega⟩
    · exact ⟨i1, by omega⟩
theorem dNL_le {n : Nat} : (dNL S o n).length ≤ 1 + n := by
  unfold dNL
  refine Nat.le_trans (List.length_filter_le _ _) ?_
  unfold dCand
  rw [List.length_append]
  have a1 := List.length_filter_le (fun l => decide (sT S 6 1 l = sT S 8 1 o ∧ (l : Int) ≠ sT S 8 13 o)) (List.range n)
  rw [List.length_range] at a1
  have a2 : (if sT S 8 13 o < 0 then [] else [(sT S 8 13 o).toNat]).length ≤ 1 := by
    split
    · exact Nat.zero_le _
    · exact Nat.le_refl _
  omega
/-- what a delivery's lists' growth takes while n lots are there -/
def phD (n : Nat) : Nat := 2 * phF (n + 1) + 212 * (n + 1)
theorem nDlS (hRr : rR z S S) (hI : iAll z k S) (hMS : mShape S) (hB : mBox S) : (nDl z S v).2 ≤ 4 * (nDl z S v).1 + phD (sn S 6) := by
  unfold nDl
  by_cases hc : cDl z S v = true
  · rw [if_pos hc]
    unfold cDl at hc
    rw [Bool.and_eq_true] at hc
    obtain ⟨o, ho, ho8⟩ := idx (of_decide_eq_true hc.1)
    have eo : v.toNat = o := by omega
    rw [eo]
    have pG : plG S (fDlT S o).1 := (dlG hI ho8 (sn S 6) (Nat.le_refl _)).1
    have m1 := pG.mfr.trans (mfr.mt (v := 0))
    have m2 := (pG.mfr.trans (dZ_mfr (z := z) (o := o) (mm := sn S 27))).trans (mfr.mt (v := 0))
    have l1 := (hRr.frY hMS hB m1).L.1
    have l2 := (hRr.frY hMS hB m2).L.1
    obtain ⟨f1, f2⟩ := fDlS (S := S) (o := o) (sn S 6)
    have f1 : (fDlT S o).2.2.2 ≤ 4 * (fDlT S o).2.2.1 + _ := f1
    have q1 := phF_mono f2
    have d1 := dNL_le (S := S) (o := o) (n := sn S 6)
    have key : ∀ Y : hS, sn Y 14 = sn S 6 → (mSrc Y o).2.2 ≤ 4 * (mSrc Y o).2.1 + phF (sn S 6 + 1) := fun Y e => by
      obtain ⟨g1, g2⟩ := mSrS (S := Y) (o := o) (sn Y 14)
      rw [e] at g2
      have q2 := phF_mono g2
      have g1 : (mSrc Y o).2.2 ≤ 4 * (mSrc Y o).2.1 + _ := g1
      rw [e] at g1
      omega
    split
    · have g := key _ l1
      show (fDlT S o).2.2.2 + (mSrc (mt (fDlT S o).1 0) o).2.2 ≤ 4 * ((fDlT S o).2.2.1 + (mSrc (mt (fDlT S o).1 0) o).2.1) + _
      unfold phD
      omega
    · have g := key _ l2
      show (fDlT S o).2.2.2 + (mSrc (mt (fDlZ z (fDlT S o).1 o (sn S 27)) 0) o).2.2 + 212 * (dNL S o (sn S 6)).length ≤ 4 * ((fDlT S o).2.2.1 + (mSrc (mt (fDlZ z (fDlT S o).1 o (sn S 27)) 0) o).2.1 + (dNL S o (sn S 6)).length) + _
      unfold phD
      omega
  · rw [if_neg hc]
    exact Nat.zero_le _
end ZG31
