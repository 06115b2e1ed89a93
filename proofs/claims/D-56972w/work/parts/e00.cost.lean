/-! THE ROOM: what reserving costs -/
set_option maxRecDepth 100000
section ZE0
variable {z : Nat → Nat} {k o l m : Nat} {S T X Y : hS} {pt n : Int}
/-- a list that is no lot's -/
def noLot (S : hS) (m : Nat) : Prop := ∀ l : Nat, l < sn S 6 → (sT S 6 3 l).toNat ≠ m
theorem rkG.ch (h : rkG m S T) (hL : iLo S) (hT : iTk S) (hn : noLot S m) (hl : l < sn S 6) : fch T l = fch S l := by
  obtain ⟨a1, a2, a3, a4, a5, -, -⟩ := h
  have e3 : sT T 6 3 l = sT S 6 3 l := a4 6 3 l (by decide) (by omega)
  unfold fch
  rw [e3, a3 26 _ (by decide) (fun w => hn l hl w.2)]
  refine List.map_congr_left (fun t ht => ?_)
  have h3 := (hL l hl).2.2.2.1
  have := hT.1 (sT S 6 3 l).toNat (by omega) t ht
  rw [a5 0 t.toNat (by omega)]
theorem rkG.walk (h : rkG m S T) (hL : iLo S) (hT : iTk S) (hch : ∀ i : Nat, i < sn S 6 → ∀ y ∈ fch S i, y < sn S 6) (hn : noLot S m) (hl : l < sn S 6) : fWalk T pt l = fWalk S pt l := by
  unfold fWalk
  rw [h.pn l, tN_cg (fun i hi => h.ch hL hT hn hi) hch 100 l hl]
/-- Foundrymark's side: the walks, and two cells an entry -/
theorem fResC (hL : iLo S) (hT : iTk S) (hch : ∀ i : Nat, i < sn S 6 → ∀ y ∈ fch S i, y < sn S 6) (hm : ∀ t ∈ sE S 26 m, t.toNat < sn S 7) (hnl : noLot S m) (hn : 0 ≤ n) : ∀ j : Nat, j ≤ sn S 6 → (fResN S m pt n j).2.2.1 + 2 * (sE S 26 m).length = 1 + ns j (fWalk S pt) + 2 * (sE (fResN S m pt n j).1 26 m).length := by
  intro j
  induction j with
  | zero =>
    intro _
    show 1 + 2 * (sE S 26 m).length = 1 + 0 + 2 * (sE S 26 m).length
    omega
  | succ j ih =>
    intro hj
    have ih := ih (by omega)
    obtain ⟨es, hG⟩ := resG (pt := pt) hm hn j (by omega)
    rw [fResN_succ]
    have hW := hG.1.walk (pt := pt) hL hT hch hnl (show j < sn S 6 by omega)
    generalize fResN S m pt n j = F at *
    obtain ⟨T, left, a, b⟩ := F
    simp only at ih hW
    unfold fResStep
    simp only
    show _ = 1 + (ns j (fWalk S pt) + fWalk S pt j) + _
    split
    · simp only
      have e : (sE (fTakeS T m j (fThere T pt left j)) 26 m).length = (sE T 26 m).length + 1 := by
        unfold fTakeS
        rw [sE_ssE, if_pos ⟨rfl, rfl⟩, List.length_append]; rfl
      rw [e, hW]
      omega
    · simp only
      rw [hW]
      omega
/-- the model's side: no more walks, three cells an entry -/
theorem mResC (hz : zInj z) (P : rsP z k o X Y) (hlen : (sE X 26 (fOL X o)).length + sn X 6 ≤ 400) (hL : iLo X) (hT : iTk X) (hch : ∀ i : Nat, i < sn X 6 → ∀ y ∈ fch X i, y < sn X 6) (hm : ∀ t ∈ sE X 26 (fOL X o), t.toNat < sn X 7) (hnl : noLot X (fOL X o)) (hn : 0 ≤ n) : ∀ j : Nat, j ≤ sn X 6 → (mResN Y o pt n j).2.2.1 + 3 * (sE X 26 (fOL X o)).length ≤ ns j (fWalk X pt) + 3 * (sE (fResN X (fOL X o) pt n j).1 26 (fOL X o)).length := by
  intro j
  induction j with
  | zero =>
    intro _
    show 0 + 3 * (sE X 26 (fOL X o)).length ≤ 0 + 3 * (sE X 26 (fOL X o)).length
    omega
  | succ j ih =>
    intro hj
    have ih := ih (by omega)
    obtain ⟨es, hG⟩ := resG (pt := pt) hm hn j (by omega)
    have hW := hG.1.walk (pt := pt) hL hT hch hnl (show j < sn X 6 by omega)
    obtain ⟨p1, p2, p3, p4, -⟩ := pairRes (pt := pt) (n := n) hz P hlen j (by omega)
    have n6 : sn (fResN X (fOL X o) pt n j).1 6 = sn X 6 := p3.2.1
    have hTh := resThere (pt := pt) (left := (fResN X (fOL X o) pt n j).2.1) p1 (show j < sn (fResN X (fOL X o) pt n j).1 6 by omega)
    have hWk := resWalk (pt := pt) p1 (show j < sn (fResN X (fOL X o) pt n j).1 6 by omega)
    have sM : mResN Y o pt n (j + 1) = mResStep o pt (mResN Y o pt n j) j := by
      unfold mResN
      rw [List.range_succ, List.foldl_append]
      rfl
    rw [fResN_succ, sM]
    generalize fResN X (fOL X o) pt n j = F at *
    generalize mResN Y o pt n j = M at *
    obtain ⟨XF, lF, aF, bF⟩ := F
    obtain ⟨YM, lM, aM, bM⟩ := M
    simp only at ih hW p2 hTh hWk
    subst p2
    show _ ≤ (ns j (fWalk X pt) + fWalk X pt j) + _
    unfold fResStep mResStep
    simp only
    rw [hTh]
    have hle : mThere YM pt lF j ≤ lF ∨ mThere YM pt lF j ≤ 0 := by
      unfold mThere
      split
      · left
        exact imin_le.2
      · right; exact Int.le_refl _
    by_cases h0 : lF ≤ 0
    · rw [if_pos h0, if_neg (by omega)]
      simp only
      omega
    · rw [if_neg h0]
      by_cases h1 : 0 < mThere YM pt lF j
      · rw [if_pos h1, if_pos h1]
        simp only
        have e : (sE (fTakeS XF (fOL X o) j (mThere YM pt lF j)) 26 (fOL X o)).length = (sE XF 26 (fOL X o)).length + 1 := by
          unfold fTakeS
          rw [sE_ssE, if_pos ⟨rfl, rfl⟩, List.length_append]; rfl
        rw [e, ← hWk, hW]
        omega
      · rw [if_neg h1, if_neg h1]
        simp only
        rw [← hWk, hW]
        omega
/-- entries: at most one a lot -/
theorem fResL : ∀ j : Nat, (sE (fResN S m pt n j).1 26 m).length ≤ (sE S 26 m).length + j := by
  intro j
  induction j with
  | zero => exact Nat.le_refl _
  | succ j ih =>
    rw [fResN_succ]
    generalize fResN S m pt n j = F at *
    obtain ⟨T, left, a, b⟩ := F
    simp only at ih
    unfold fResStep
    simp only
    split
    · simp only
      have e : (sE (fTakeS T m j (fThere T pt left j)) 26 m).length = (sE T 26 m).length + 1 := by
        unfold fTakeS
        rw [sE_ssE, if_pos ⟨rfl, rfl⟩, List.length_append]; rfl
      omega
    · simp only
      omega
end ZE0
