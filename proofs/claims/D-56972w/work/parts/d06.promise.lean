/-! THE ROOM: what reserving keeps -/
set_option maxRecDepth 100000
/-- an order's list, stage and lots' reserved pieces may change, new pieces come -/
def rkH (m o : Nat) (S X : hS) : Prop := (∀ c : Nat, c ≠ 7 → sn X c = sn S c) ∧ sn S 7 ≤ sn X 7 ∧ (∀ c i : Nat, c ≠ 7 → ¬ (c = 26 ∧ i = m) → sE X c i = sE S c i) ∧ (∀ c j i : Nat, c ≠ 7 → ¬ (c = 6 ∧ j = 5) → ¬ (c = 8 ∧ j = 7 ∧ i = o) → sT X c j i = sT S c j i) ∧ ∀ j i : Nat, i < sn S 7 → sT X 7 j i = sT S 7 j i
section ZD6
variable {z : Nat → Nat} {k k2 o l : Nat} {X X' X2 S S2 T Y : hS}
theorem rkH.list (hz : zInj z) (hI : iAll z k S) (ho : o < sn S 8) (hst : sT S 8 7 o = (z 0 : Nat) ∨ sT S 8 7 o = (z 1 : Nat)) :
    (∀ q : Nat, q < sn S 8 → q ≠ o → fOL S q ≠ fOL S o) ∧ (∀ l : Nat, l < sn S 6 → (sT S 6 3 l).toNat ≠ fOL S o) ∧ ∀ q s : Nat, 2 ≤ s → s < 6 → sT S 8 7 q = (z s : Nat) → q ≠ o := by
  have h5o := (hI.or o ho).2.2.2.2.2.1
  have ne : ∀ q s : Nat, 2 ≤ s → s < 6 → sT S 8 7 q = (z s : Nat) → q ≠ o := fun q s h2 h6 hs e => by
    subst e
    rcases hst with w | w
    · have := hz 0 s (by decide) (by omega) (by omega)
      omega
    · have := hz 1 s (by decide) (by omega) (by omega)
      omega
  refine ⟨fun q hq hne e => hne (hI.sp.1 q o hq ho ?_), fun l hl e => ?_, ne⟩
  · have := (hI.or q hq).2.2.2.2.2.1
    unfold fOL at e; omega
  · have h3 := (hI.lo l hl).2.2.2.1
    have e2 : sT S 6 3 l = sT S 8 5 o := by unfold fOL at e; omega
    rcases hI.sp.2.2.1 l o hl ho e2 with w | w
    · exact ne o 4 (by decide) (by decide) w rfl
    · exact ne o 5 (by decide) (by decide) w rfl
theorem rkH.gW (h : rkH (fOL S o) o S X) (hz : zInj z) (hI : iAll z k S) (ho : o < sn S 8) (hst : sT S 8 7 o = (z 0 : Nat) ∨ sT S 8 7 o = (z 1 : Nat)) : gW z S X := by
  obtain ⟨n1, n2, n3, n4, n5⟩ := h
  obtain ⟨q1, q2, q3⟩ := rkH.list hz hI ho hst
  exact ⟨⟨Nat.le_of_eq (n1 6 (by decide)).symm, fun j l _ hj => n4 6 j l (by decide) (by omega) (by omega)⟩, ⟨n2, fun j t ht _ => n5 j t ht⟩, ⟨Nat.le_of_eq (n1 8 (by decide)).symm, fun j q _ hj => n4 8 j q (by decide) (by omega) (by omega)⟩, ⟨Nat.le_of_eq (n1 4 (by decide)).symm, fun j c _ => n4 4 j c (by decide) (by omega) (by omega)⟩, ⟨Nat.le_of_eq (n1 2 (by decide)).symm, fun j i _ _ => n4 2 j i (by decide) (by omega) (by omega)⟩, ⟨Nat.le_of_eq (n1 3 (by decide)).symm, fun i _ => n4 3 0 i (by decide) (by omega) (by omega)⟩, pgr.same (n3 21 0 (by decide) (by omega)), fun i _ => ⟨[], by rw [n3 24 i (by decide) (by omega), List.append_nil]⟩, fun q s hq h2 h6 hs => ⟨⟨s, ⟨by omega, fun _ => Nat.le_refl _⟩, h6, by rw [n4 8 7 q (by decide) (by omega) (fun w => q3 q s h2 h6 hs w.2.2)]; exact hs⟩, n3 26 _ (by decide) (fun w => q1 q hq (q3 q s h2 h6 hs) w.2), by rw [n4 8 8 q (by decide) (by omega) (by omega)]; exact Int.le_refl _, fun _ => n4 8 13 q (by decide) (by omega) (by omega)⟩, fun q hq _ => n3 27 _ (by decide) (by omega), fun l hl => n3 26 _ (by decide) (fun w => q2 l hl w.2)⟩
/-- the invariants, but for the order itself -/
theorem rkH.rn (h : rkH (fOL S o) o S X) (hz : zInj z) (hI : iAll z k S) (hR : iRn z S) (ho : o < sn S 8) (hmd : (sT S 8 1 o).toNat % 2 = 0) (hst : sT S 8 7 o = (z 0 : Nat) ∨ sT S 8 7 o = (z 1 : Nat)) (hD : iDj X) (hc : sE X 26 (fOL S o) ≠ [] → cOk X o) : gRn z S X := by
  have g := h.gW hz hI ho hst
  obtain ⟨n1, n2, n3, n4, n5⟩ := h
  obtain ⟨q1, q2, q3⟩ := rkH.list hz hI ho hst
  obtain ⟨⟨-, hLt, hC⟩, hM, hPq⟩ := hR
  have n8 := n1 8 (by decide)
  have n6 := n1 6 (by decide)
  refine ⟨g, ⟨hD, fun l hl => ?_, fun p hp hne => ?_⟩, fun p hp hne => ?_, fun p hp => ?_⟩
  · rw [n6] at hl
    rw [g.1.2 1 l hl (by decide), g.1.2 3 l hl (by decide), g.1.2 2 l hl (by decide), n3 26 _ (by decide) (fun w => q2 l hl w.2)]
    rcases hLt l hl with w | ⟨w1, w2, q, w3, w4, w5, w6, w7, w8⟩
    · exact Or.inl w
    · refine Or.inr ⟨w1, w2, q, by omega, by rw [n4 8 13 q (by decide) (by omega) (by omega)]; exact w4, by rw [g.2.2.1.2 5 q w3 (by decide)]; exact w5, by rw [g.2.2.1.2 1 q w3 (by decide)]; exact w6, by rw [g.2.2.1.2 2 q w3 (by decide)]; exact w7, ?_⟩
      have hne : q ≠ o := by
        rintro rfl
        have h17 := (hI.or q ho).2.2.2.2.2.2.2.2.2.2.2.2.2.2.2.1
        have := h17 (fun w => q3 q 4 (by decide) (by decide) w rfl) (fun w => q3 q 5 (by decide) (by decide) w rfl)
        omega
      unfold fPr
      rw [n4 8 7 q (by decide) (by omega) (fun w => hne w.2.2)]
      exact w8
  · rw [n8] at hp
    rw [g.oL hp] at hne
    by_cases e : p = o
    · subst e
      exact hc hne
    · have e26 := n3 26 (fOL S p) (by decide) (fun w => q1 p hp e w.2)
      rw [e26] at hne
      exact (hC p hp hne).gW g hI.pt hI.lo hI.or hI.tk hp (hM p hp hne) e26
  · rw [n8] at hp
    rw [g.2.2.1.2 1 p hp (by decide)]
    by_cases e : p = o
    · subst e
      exact hmd
    · rw [g.oL hp, n3 26 (fOL S p) (by decide) (fun w => q1 p hp e w.2)] at hne
      exact hM p hp hne
  · rw [n8] at hp
    rw [n4 8 8 p (by decide) (by omega) (by omega), n4 8 2 p (by decide) (by omega) (by omega)]
    exact hPq p hp
/-- all of a promise's reserving -/
theorem raW (hz : zInj z) (hI : iAll z k S) (hR : iRn z S) (ho : o < sn S 8) (hmd : (sT S 8 1 o).toNat % 2 = 0) (hst : sT S 8 7 o = (z 0 : Nat)) : gRn z S (fRA z S o).1 := by
  have hD := iDj_fRA hI hR.1.1 ho hmd hst
  obtain ⟨p1, p2⟩ := hI.cp1 ho hmd
  have hem : sE S 26 (fOL S o) = [] := (hI.em o ho).1 hst
  by_cases hok : (fRA z S o).2.1 = true
  · obtain ⟨T, e, h, cs, c1, c2⟩ := raG hem p1 p2 hok
    rw [e] at hD ⊢
    have hp := h.pn
    obtain ⟨a1, a2, a3, a4, a5, -, -⟩ := h
    have t : ∀ c j i : Nat, c ≠ 7 → ¬ (c = 6 ∧ j = 5) → ¬ (c = 8 ∧ j = 7 ∧ i = o) → sT (sset T 8 7 o (z 1 : Nat)) c j i = sT S c j i := fun c j i h1 h2 h3 => by
      rw [sT_set, if_neg (by omega)]
      exact a4 c j i h1 h2
    refine rkH.rn ⟨a1, a2, a3, t, fun j i hi => ?_⟩ hz hI hR ho hmd (Or.inl hst) hD (fun _ => ?_)
    · rw [sT_set, if_neg (by omega)]
      exact a5 j i hi
    · obtain ⟨d1, d2, d3, d4, d5⟩ := c2
      have eOL : fOL (sset T 8 7 o (z 1 : Nat)) o = fOL S o := congrArg Int.toNat (t 8 5 o (by decide) (by omega) (by omega))
      have ePn : ∀ l : Nat, fPnum (sset T 8 7 o (z 1 : Nat)) l = fPnum S l := fun l => by
        rw [← hp l]
        unfold fPnum fLp
        rw [sT_set, if_neg (by omega), sT_set, if_neg (by omega)]
      have eC : fComps (sset T 8 7 o (z 1 : Nat)) o = fComps S o := by
        unfold fComps
        rw [t 8 1 o (by decide) (by omega) (by omega), t 2 7 _ (by decide) (by omega) (by omega)]
        exact a3 24 _ (by decide) (by omega)
      refine ⟨cs, ?_, ?_, fun c hcs => ?_, d3, fun c hcs => ?_, d5⟩
      · rw [c1]
        unfold fTl tlL
        rw [eOL]
        exact List.map_congr_left (fun t _ => by rw [sT_set, if_neg (by omega), sT_set, if_neg (by omega)])
      · rw [eC]; exact d1
      · obtain ⟨f1, f2, f3⟩ := d2 c hcs
        refine ⟨f1, fun x hx => ?_, by rw [t 8 2 o (by decide) (by omega) (by omega)]; exact f3⟩
        obtain ⟨l, l1, l2, l3, l4⟩ := f2 x hx
        exact ⟨l, by show l < sn T 6; rw [a1 6 (by decide)]; exact l1, l2, by rw [ePn, t 4 0 _ (by decide) (by omega) (by omega)]; exact l3, l4⟩
      · obtain ⟨w, w1, w2, w3⟩ := d4 c hcs
        exact ⟨w, by show w < sn T 6; rw [a1 6 (by decide)]; exact w1, by rw [ePn, t 4 0 _ (by decide) (by omega) (by omega)]; exact w2, w3⟩
  · obtain ⟨T, e, h⟩ := raG0 (z := z) hem p1 p2 (by cases hh : (fRA z S o).2.1 with
      | true => exact absurd hh hok
      | false => rfl)
    rw [e] at hD ⊢
    obtain ⟨a1, a2, a3, a4, a5, -, -⟩ := h
    have eT : fOL T o = fOL S o := congrArg Int.toNat (a4 8 5 o (by decide) (by omega))
    refine rkH.rn ⟨fun c hc => by rw [fTB_sn]; exact a1 c hc, by rw [fTB_sn]; exact a2, fun c i hc hi => ?_, fun c j i hc h2 _ => ?_, fun j i hi => ?_⟩ hz hI hR ho hmd (Or.inl hst) hD (fun hne => absurd ?_ hne)
    · rw [fTB_sE, if_neg (by rw [eT]; exact hi)]
      exact a3 c i hc hi
    · rw [fTB_sT h2]
      exact a4 c j i hc h2
    · rw [fTB_sT (by omega)]
      exact a5 j i hi
    · rw [fTB_sE, if_pos ⟨rfl, eT.symm⟩]
end ZD6
