/-! THE ROOM: what a delivery costs -/
set_option maxRecDepth 100000
section ZE6
variable {z : Nat → Nat} {k o l p : Nat} {S T X Y U : hS}
theorem plG.ch (h : plG S T) (hI : iAll z k S) (hl : l < sn S 6) : fch T l = fch S l := by
  obtain ⟨a1, a2, a3, a4, a5, a6, -⟩ := h
  have h3 := (hI.lo l hl).2.2.2.1
  refine fch_congr (a5 6 3 l (by decide)) (a4 26 _ (by decide) (by omega)) (fun t ht => a6 0 t.toNat ?_)
  have := hI.tk.1 (sT S 6 3 l).toNat (by omega) t ht
  omega
theorem plG.nT (h : plG S T) (hI : iAll z k S) (hl : l < sn S 6) : tN (fch T) 100 l = nT S l := tN_cg (fun i hi => h.ch hI hi) hI.chlt 100 l hl
/-- lots of an order's part but its own -/
abbrev oth (S : hS) (o l : Nat) : Prop := sT S 6 1 l = sT S 8 1 o ∧ (l : Int) ≠ sT S 8 13 o
def ownC (S : hS) (o c : Nat) : Nat := if sT S 8 13 o < 0 then 0 else nT S (sT S 8 13 o).toNat + c
theorem fDlC (hI : iAll z k S) (ho : o < sn S 8) : ∀ p : Nat, p ≤ sn S 6 → (fDlN S o p).2.2.1 ≤ 2 + ownC S o 2 + ns p (fun l => if oth S o l then nT S l + 2 else 0) := by
  have h13 := (hI.or o ho).2.2.2.2.2.2.2.2.2.2.1
  have fc : ∀ (T : hS) (l : Nat) (t : Int), plG S T → l < sn S 6 → fPlanC T l t ≤ nT S l + 2 := fun T l t hT hl => by
    unfold fPlanC
    rw [hT.nT hI hl]
    split <;> omega
  intro p
  induction p with
  | zero =>
    intro _
    have ef : fDlN S o 0 = fDl0 S o := rfl
    rw [ef]
    unfold fDl0 ownC
    by_cases h : sT S 8 13 o < 0
    · rw [if_pos h, if_pos h]
      show 2 ≤ 2 + 0 + 0
      omega
    · rw [if_neg h, if_neg h]
      have := fc (snw S 27 []) (sT S 8 13 o).toNat (fPlanT (snw S 27 []) (sT S 8 13 o).toNat (sT S 8 2 o)) plG_0 (by omega)
      show 2 + fPlanC (snw S 27 []) (sT S 8 13 o).toNat (fPlanT (snw S 27 []) (sT S 8 13 o).toNat (sT S 8 2 o)) ≤ 2 + (nT S (sT S 8 13 o).toNat + 2) + 0
      omega
  | succ p ih =>
    intro hp
    have ih := ih (by omega)
    obtain ⟨g1, -⟩ := dlG hI ho p (by omega)
    rw [fDlN_succ]
    have eN : ns (p + 1) (fun l => if oth S o l then nT S l + 2 else 0) = ns p (fun l => if oth S o l then nT S l + 2 else 0) + (if oth S o p then nT S p + 2 else 0) := rfl
    rw [eN]
    unfold fDlStep
    generalize fDlN S o p = F at *
    obtain ⟨T, n, c1, c2⟩ := F
    have g1 : plG S T := g1
    have ih : c1 ≤ 2 + ownC S o 2 + ns p (fun l => if oth S o l then nT S l + 2 else 0) := ih
    have e1 : sT T 6 1 p = sT S 6 1 p := g1.2.2.2.2.1 6 1 p (by decide)
    have e2 : sT T 8 1 o = sT S 8 1 o := g1.2.2.2.2.1 8 1 o (by decide)
    have e3 : sT T 8 13 o = sT S 8 13 o := g1.2.2.2.2.1 8 13 o (by decide)
    show (if sT T 6 1 p = sT T 8 1 o ∧ (p : Int) ≠ sT T 8 13 o then fPlanStep (sn S 27) (T, n, c1, c2) p else (T, n, c1, c2)).2.2.1 ≤ _
    rw [e1, e2, e3]
    by_cases h : oth S o p
    · have h' : sT S 6 1 p = sT S 8 1 o ∧ (p : Int) ≠ sT S 8 13 o := h
      rw [if_pos h', if_pos h]
      have := fc T p (fPlanT T p n) g1 (by omega)
      show c1 + fPlanC T p (fPlanT T p n) ≤ _
      omega
    · have h' : ¬ (sT S 6 1 p = sT S 8 1 o ∧ (p : Int) ≠ sT S 8 13 o) := h
      rw [if_neg h', if_neg h]
      show c1 ≤ _
      omega
theorem mSrcC (hR : rR z X Y) (hI : iAll z k X) (ho : o < sn X 8) : ∀ p : Nat, p ≤ sn X 6 → (mSrcN Y o p).2.1 ≤ 2 + ownC X o 1 + ns p (fun l => if oth X o l then nT X l + 1 else 0) := by
  have h13 := (hI.or o ho).2.2.2.2.2.2.2.2.2.2.1
  have e12 : sT Y 15 12 o = sT X 8 13 o := (hR.O.2 o ho).2.1.2.2.2.2
  have mc : ∀ (T : hS) (m l a b : Nat), mSrcI Y T → l < sn X 6 → (mSrcT (T, a, b) m l).2.1 ≤ a + (nT X l + 1) := fun T m l a b hT hl => by
    unfold mSrcT
    have e : tN (mch T) 100 l = nT X l := by rw [hT.ch]; exact hR.nodes hI 100 hl
    simp only [e]
    split
    · show a + nT X l ≤ _
      omega
    · show a + nT X l + 1 ≤ _
      omega
  intro p
  induction p with
  | zero =>
    intro _
    have ef : mSrcN Y o 0 = mSrc0 Y o := rfl
    rw [ef]
    unfold mSrc0 ownC
    rw [e12]
    by_cases h : sT X 8 13 o < 0
    · rw [if_pos h, if_pos h]
      show 2 ≤ 2 + 0 + 0
      omega
    · rw [if_neg h, if_neg h]
      exact mc (snw Y 42 []) (sn Y 42) (sT X 8 13 o).toNat 2 7 mSrcI_0 (by omega)
  | succ p ih =>
    intro hp
    have ih := ih (by omega)
    obtain ⟨g1, -⟩ := srcG hR hI ho p (by omega)
    have es : mSrcN Y o (p + 1) = mSrcStep o (sn Y 42) (mSrcN Y o p) p := by
      unfold mSrcN
      rw [List.range_succ, List.foldl_append]
      rfl
    rw [es]
    have eN : ns (p + 1) (fun l => if oth X o l then nT X l + 1 else 0) = ns p (fun l => if oth X o l then nT X l + 1 else 0) + (if oth X o p then nT X p + 1 else 0) := rfl
    rw [eN]
    unfold mSrcStep
    generalize mSrcN Y o p = F at *
    obtain ⟨T, c1, c2⟩ := F
    have g1 : mSrcI Y T := g1
    have ih : c1 ≤ 2 + ownC X o 1 + ns p (fun l => if oth X o l then nT X l + 1 else 0) := ih
    have hLp := hR.L.2 p (by omega)
    have e1 : sT T 14 1 p = sT Y 14 1 p := g1.2.2.1 14 1 p (by decide)
    have e2 : sT T 15 1 o = sT Y 15 1 o := g1.2.2.1 15 1 o (by decide)
    have e3 : sT T 15 12 o = sT X 8 13 o := (g1.2.2.1 15 12 o (by decide)).trans e12
    have hiff : sT Y 14 1 p = sT Y 15 1 o ↔ sT X 6 1 p = sT X 8 1 o := hR.partIff hI (by omega) ho
    show (if sT T 14 1 p = sT T 15 1 o ∧ (p : Int) ≠ sT T 15 12 o then mSrcT (T, c1, c2) (sn Y 42) p else (T, c1, c2)).2.1 ≤ _
    rw [e1, e2, e3]
    by_cases h : oth X o p
    · have h' : sT Y 14 1 p = sT Y 15 1 o ∧ (p : Int) ≠ sT X 8 13 o := ⟨hiff.mpr h.1, h.2⟩
      rw [if_pos h', if_pos h]
      have := mc T (sn Y 42) p c1 c2 g1 (by omega)
      omega
    · have h' : ¬ (sT Y 14 1 p = sT Y 15 1 o ∧ (p : Int) ≠ sT X 8 13 o) := fun w => h ⟨hiff.mp w.1, w.2⟩
      rw [if_neg h', if_neg h]
      show c1 ≤ _
      omega
end ZE6
