/-! THE SIMULATION: the model's sources of a delivery -/
set_option maxRecDepth 100000
section ZCB3
variable {z : Nat → Nat} {k o m l p : Nat} {X Y U T : hS} {t n left : Int} {es : List (Int × Int)}
theorem rR.heldEq (hR : rR z X Y) (hI : iAll z k X) (hl : l < sn X 6) : tHeld (mh Y) (mch Y) 100 l = tHeld (fh X) (fch X) 100 l := by
  refine tHeld_cg (N := sn X 6) (fun i hi => ?_) (fun i hi => (hR.L.2 i hi).2.2.2.2.2) hI.no.chlt 100 l hl
  unfold mh fh
  rw [(hR.L.2 i hi).2.2.2.2.1]
theorem fPc_inj (hP : iPt k X) {p q : Nat} (hp : p < np X) (hq : q < np X) (h : fPc X p = fPc X q) : p = q := by
  rcases hP.pc hp with ⟨a1, a2, a3⟩ | ⟨a1, a2, a3⟩ <;> rcases hP.pc hq with ⟨b1, b2, b3⟩ | ⟨b1, b2, b3⟩
  · rw [h, b3] at a3; omega
  · omega
  · omega
  · rw [h, b3] at a3; omega
theorem rR.partIff (hR : rR z X Y) (hI : iAll z k X) (hl : l < sn X 6) (ho : o < sn X 8) : sT Y 14 1 l = sT Y 15 1 o ↔ sT X 6 1 l = sT X 8 1 o := by
  obtain ⟨⟨p, p1, p2, p3⟩, -⟩ := hR.L.2 l hl
  obtain ⟨⟨q, q1, q2, q3⟩, -⟩ := (hR.O.2 o ho).1
  rw [p2, p3, q2, q3]
  constructor
  · intro h
    have : p = q := by omega
    rw [this]
  · intro h
    have := fPc_inj hI.pt p1 q1 (by omega)
    rw [this]
/-- the lots that can be asked -/
def dNL (X : hS) (o p : Nat) : List Nat := (dCand X o p).filter (fun l => decide (tHeld (fh X) (fch X) 100 l = false))
theorem dCand_succ : dCand X o (p + 1) = dCand X o p ++ (if sT X 6 1 p = sT X 8 1 o ∧ (p : Int) ≠ sT X 8 13 o then [p] else []) := by
  unfold dCand
  rw [List.range_succ, List.filter_append, List.append_assoc, List.filter_cons, List.filter_nil]
  by_cases h : sT X 6 1 p = sT X 8 1 o ∧ (p : Int) ≠ sT X 8 13 o
  · rw [if_pos h, if_pos (decide_eq_true h)]
  · rw [if_neg h, decide_eq_false h]; rfl
theorem srcT (h : mSrcI Y T) (hR : rR z X Y) (hI : iAll z k X) (hl : l < sn X 6) {L : List Nat} (hL : sE T 42 (sn Y 42) = L.map (fun l : Nat => (l : Int))) {c1 c2 : Nat} :
    mSrcI Y (mSrcT (T, c1, c2) (sn Y 42) l).1 ∧ sE (mSrcT (T, c1, c2) (sn Y 42) l).1 42 (sn Y 42) = (L ++ (if tHeld (fh X) (fch X) 100 l = false then [l] else [])).map (fun l : Nat => (l : Int)) := by
  refine ⟨mSrcI_T h, ?_⟩
  unfold mSrcT
  dsimp only
  rw [h.h, h.ch, hR.heldEq hI hl]
  cases tHeld (fh X) (fch X) 100 l with
  | true =>
    rw [if_pos rfl, if_neg (show ¬ (true = false) from by decide), List.append_nil]
    exact hL
  | false =>
    rw [if_neg (show ¬ (false = true) from by decide), if_pos rfl]
    show sE (ssE T 42 (sn Y 42) _) 42 (sn Y 42) = _
    rw [sE_ssE, if_pos ⟨rfl, rfl⟩, hL, List.map_append]; rfl
theorem srcG (hR : rR z X Y) (hI : iAll z k X) (ho : o < sn X 8) : ∀ p : Nat, p ≤ sn X 6 → mSrcI Y (mSrcN Y o p).1 ∧ sE (mSrcN Y o p).1 42 (sn Y 42) = (dNL X o p).map (fun l : Nat => (l : Int)) := by
  have h13 := (hI.or o ho).2.2.2.2.2.2.2.2.2.2.1
  have e12 : sT Y 15 12 o = sT X 8 13 o := (hR.O.2 o ho).2.1.2.2.2.2
  intro p
  induction p with
  | zero =>
    intro _
    have e0 : sE (snw Y 42 []) 42 (sn Y 42) = ([] : List Nat).map (fun l : Nat => (l : Int)) := by rw [sE_w, if_pos ⟨rfl, rfl⟩]; rfl
    have ef : mSrcN Y o 0 = mSrc0 Y o := rfl
    rw [ef]
    unfold mSrc0 dNL dCand
    rw [e12]
    by_cases h : sT X 8 13 o < 0
    · rw [if_pos h, if_pos h]
      exact ⟨mSrcI_0, e0⟩
    · rw [if_neg h, if_neg h]
      obtain ⟨q1, q2⟩ := srcT (l := (sT X 8 13 o).toNat) (c1 := 2) (c2 := 7) mSrcI_0 hR hI (by omega) e0
      refine ⟨q1, q2.trans ?_⟩
      congr 1
      show _ = ([(sT X 8 13 o).toNat] ++ []).filter _
      rw [List.nil_append, List.append_nil, List.filter_cons, List.filter_nil]
      by_cases hh : tHeld (fh X) (fch X) 100 (sT X 8 13 o).toNat = false
      · rw [if_pos hh, if_pos (decide_eq_true hh)]
      · rw [if_neg hh, decide_eq_false hh]; rfl
  | succ p ih =>
    intro hp
    obtain ⟨g1, g2⟩ := ih (by omega)
    have ed : dNL X o (p + 1) = if sT X 6 1 p = sT X 8 1 o ∧ (p : Int) ≠ sT X 8 13 o then dNL X o p ++ (if tHeld (fh X) (fch X) 100 p = false then [p] else []) else dNL X o p := by
      unfold dNL
      rw [dCand_succ, List.filter_append]
      split
      · congr 1
        rw [List.filter_cons, List.filter_nil]
        by_cases hh : tHeld (fh X) (fch X) 100 p = false
        · rw [if_pos hh, if_pos (decide_eq_true hh)]
        · rw [if_neg hh, decide_eq_false hh]; rfl
      · rw [List.filter_nil, List.append_nil]
    rw [mSrcN_succ, ed]
    unfold mSrcStep
    generalize mSrcN Y o p = F at *
    obtain ⟨T, c1, c2⟩ := F
    have g1 : mSrcI Y T := g1
    have g2 : sE T 42 (sn Y 42) = (dNL X o p).map (fun l : Nat => (l : Int)) := g2
    have e1 : sT T 14 1 p = sT Y 14 1 p := g1.2.2.1 14 1 p (by decide)
    have e2 : sT T 15 1 o = sT Y 15 1 o := g1.2.2.1 15 1 o (by decide)
    have e3 : sT T 15 12 o = sT X 8 13 o := (g1.2.2.1 15 12 o (by decide)).trans e12
    have iff : (sT T 14 1 p = sT T 15 1 o ∧ (p : Int) ≠ sT T 15 12 o) ↔ (sT X 6 1 p = sT X 8 1 o ∧ (p : Int) ≠ sT X 8 13 o) := by
      rw [e1, e2, e3, hR.partIff hI (by omega) ho]
    show mSrcI Y (if sT T 14 1 p = sT T 15 1 o ∧ (p : Int) ≠ sT T 15 12 o then mSrcT (T, c1, c2) (sn Y 42) p else (T, c1, c2)).1 ∧ sE (if sT T 14 1 p = sT T 15 1 o ∧ (p : Int) ≠ sT T 15 12 o then mSrcT (T, c1, c2) (sn Y 42) p else (T, c1, c2)).1 42 (sn Y 42) = _
    by_cases h : sT X 6 1 p = sT X 8 1 o ∧ (p : Int) ≠ sT X 8 13 o
    · rw [if_pos (iff.mpr h), if_pos h]
      exact srcT g1 hR hI (by omega) g2
    · rw [if_neg (fun w => h (iff.mp w)), if_neg h]
      exact ⟨g1, g2⟩
/-- held lots give nothing: the plan over all lots is the plan over those that can be asked -/
theorem dPl_filter (hI : iAll z k X) : ∀ (L : List Nat) (s : List (Int × Int) × Int), 0 ≤ s.2 → (∀ l ∈ L, l < sn X 6) → L.foldl (dSt X) s = (L.filter (fun l => decide (tHeld (fh X) (fch X) 100 l = false))).foldl (dSt X) s := by
  intro L
  induction L with
  | nil => intro s _ _; rfl
  | cons x L ih =>
    intro s hs hL
    have hd := dav_range hI (hL x List.mem_cons_self)
    rw [List.foldl_cons, List.filter_cons]
    have h2 : 0 ≤ (dSt X s x).2 := by
      have hi : imin s.2 (dav X x) ≤ s.2 := by unfold imin; split <;> omega
      unfold dSt
      split
      · show 0 ≤ s.2 - _
        omega
      · exact hs
    by_cases hh : tHeld (fh X) (fch X) 100 x = false
    · rw [if_pos (decide_eq_true hh), List.foldl_cons]
      exact ih _ h2 (fun l hl => hL l (List.mem_cons_of_mem _ hl))
    · rw [decide_eq_false hh]
      have e0 : dav X x = 0 := by unfold dav; rw [if_neg hh]
      have e : dSt X s x = s := by
        unfold dSt
        rw [e0, if_neg (by unfold imin; split <;> omega)]
      rw [e]
      exact ih s hs (fun l hl => hL l (List.mem_cons_of_mem _ hl))
/-- there are enough pieces just when nothing is left -/
theorem dPl_sum (hI : iAll z k X) : ∀ (L : List Nat) (s : List (Int × Int) × Int), 0 ≤ s.2 → (∀ l ∈ L, l < sn X 6) → ((L.foldl (dSt X) s).2 ≤ 0 ↔ s.2 ≤ (L.map (dav X)).sum) := by
  intro L
  induction L with
  | nil => intro s _ _; exact Iff.rfl
  | cons x L ih =>
    intro s hs hL
    have hd := dav_range hI (hL x List.mem_cons_self)
    rw [List.foldl_cons, List.map_cons, List.sum_cons]
    have h2 : 0 ≤ (dSt X s x).2 ∧ ((dSt X s x).2 = s.2 - imin s.2 (dav X x)) := by
      have hi : 0 ≤ imin s.2 (dav X x) ∧ imin s.2 (dav X x) ≤ s.2 := by unfold imin; split <;> omega
      unfold dSt
      split
      · exact ⟨by show 0 ≤ s.2 - _; omega, rfl⟩
      · exact ⟨hs, by omega⟩
    have hL' : ∀ l ∈ L, l < sn X 6 := fun l hl => hL l (List.mem_cons_of_mem _ hl)
    rw [ih _ h2.1 hL', h2.2]
    have hs0 : 0 ≤ (L.map (dav X)).sum := by
      have : ∀ M : List Nat, (∀ l ∈ M, l < sn X 6) → 0 ≤ (M.map (dav X)).sum := by
        intro M
        induction M with
        | nil => intro _; exact Int.le_refl _
        | cons y M ihM =>
          intro hM
          rw [List.map_cons, List.sum_cons]
          have := (dav_range hI (hM y List.mem_cons_self)).1
          have := ihM (fun l hl => hM l (List.mem_cons_of_mem _ hl))
          omega
      exact this L hL'
    unfold imin
    split <;> omega
end ZCB3
