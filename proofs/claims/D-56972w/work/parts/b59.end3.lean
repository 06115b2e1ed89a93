/-! THE SIMULATION: a machine ends its job, on both sides; what stays of the lots' and orders' shape -/
set_option maxRecDepth 100000
/-- parts, lots, taken pieces and orders have the same shape -/
def strEq (A B : hS) : Prop := (∀ c : Nat, c = 2 ∨ c = 3 ∨ c = 4 ∨ c = 5 ∨ c = 21 ∨ c = 24 ∨ c = 25 ∨ c = 26 ∨ c = 27 → ceq A B c) ∧ sn B 6 = sn A 6 ∧ (∀ j i : Nat, j < 8 → sT B 6 j i = sT A 6 j i) ∧ sn B 7 = sn A 7 ∧ (∀ j i : Nat, j < 2 → sT B 7 j i = sT A 7 j i) ∧ sn B 8 = sn A 8 ∧ (∀ j i : Nat, j < 7 ∨ j = 13 → sT B 8 j i = sT A 8 j i) ∧ sT B 0 5 0 = sT A 0 5 0
def finOk (z : Nat → Nat) (A : hS) (o : Nat) : Prop := o < sn A 8 ∧ (sT A 8 1 o).toNat % 2 = 0 ∧ 0 < sT A 8 8 o ∧ sT A 8 13 o = -1 ∧ (∀ l : Nat, l < sn A 6 → sT A 6 3 l ≠ (fOL A o : Nat)) ∧ 0 ≤ sT A 8 5 o ∧ 0 ≤ sT A 8 1 o
/-- stages: the same, or on from promised, waiting, working; finished so only without pieces -/
def stq (z : Nat → Nat) (A B : hS) : Prop := (∀ i : Nat, sT B 8 8 i = sT A 8 8 i) ∧ ∀ i : Nat, sT B 8 7 i = sT A 8 7 i ∨ ((∃ s : Nat, 1 ≤ s ∧ s < 4 ∧ sT A 8 7 i = (z s : Nat)) ∧ (sT A 8 7 i = (z 1 : Nat) → 0 < sT A 8 8 i) ∧ ((∃ s : Nat, 2 ≤ s ∧ s < 4 ∧ sT B 8 7 i = (z s : Nat)) ∨ sT A 8 8 i ≤ 0))
/-- what holds of a state's shape and is kept by finishing holds behind, too -/
def shpC (z : Nat → Nat) (A B : hS) : Prop := ∀ P : hS → Prop, (∀ A B : hS, strEq A B → stq z A B → P A → P B) → (∀ (A : hS) (o : Nat), finOk z A o → (∃ s : Nat, 1 ≤ s ∧ s < 4 ∧ sT A 8 7 o = (z s : Nat)) → (∀ i : Nat, i < sn A 8 → sT A 8 8 i ≤ sT A 8 2 i) → P A → P (fFiB z A o)) → (∀ i : Nat, i < sn A 8 → sT A 8 8 i ≤ sT A 8 2 i) → P A → P B
/-- the orders' stages and pieces left, where jobs go on -/
def jbS (z : Nat → Nat) (A B : hS) : Prop := sn B 8 = sn A 8 ∧ (∀ i : Nat, sT B 8 8 i = sT A 8 8 i) ∧ (∀ i : Nat, sT B 8 2 i = sT A 8 2 i) ∧ ∀ i : Nat, sT B 8 7 i = sT A 8 7 i ∨ ((∃ s : Nat, 1 ≤ s ∧ s < 4 ∧ sT A 8 7 i = (z s : Nat)) ∧ ∃ s : Nat, 2 ≤ s ∧ s < 5 ∧ sT B 8 7 i = (z s : Nat))
section ZCA3
variable {z : Nat → Nat} {k m o : Nat} {X Y : hS} {A B D : hS}
theorem strEq.refl : strEq A A := ⟨fun _ _ => ceq.refl, rfl, fun _ _ _ => rfl, rfl, fun _ _ _ => rfl, rfl, fun _ _ _ => rfl, rfl⟩
theorem strEq.trans (h : strEq A B) (h2 : strEq B D) : strEq A D := by
  obtain ⟨a1, a2, a3, a4, a5, a6, a7, a8⟩ := h
  obtain ⟨b1, b2, b3, b4, b5, b6, b7, b8⟩ := h2
  exact ⟨fun c hc => (a1 c hc).trans (b1 c hc), b2.trans a2, fun j i hj => (b3 j i hj).trans (a3 j i hj), b4.trans a4, fun j i hj => (b5 j i hj).trans (a5 j i hj), b6.trans a6, fun j i hj => (b7 j i hj).trans (a7 j i hj), b8.trans a8⟩
theorem shpC.refl : shpC z A A := fun _ _ _ _ h => h
theorem stq.refl : stq z A A := ⟨fun _ => rfl, fun _ => Or.inl rfl⟩
theorem stq.trans (h : stq z A B) (h2 : stq z B D) : stq z A D := by
  obtain ⟨a1, a2⟩ := h
  obtain ⟨b1, b2⟩ := h2
  refine ⟨fun i => (b1 i).trans (a1 i), fun i => ?_⟩
  rcases a2 i with h | ⟨h, h1, h'⟩ <;> rcases b2 i with g | ⟨g, g1, g'⟩
  · exact Or.inl (g.trans h)
  · rw [h] at g g1
    rw [a1] at g' g1
    exact Or.inr ⟨g, g1, g'⟩
  · rw [← g] at h'
    exact Or.inr ⟨h, h1, h'⟩
  · rw [a1] at g'
    exact Or.inr ⟨h, h1, g'⟩
theorem shpC.of (h : strEq A B) (q : stq z A B) : shpC z A B := fun P h1 _ _ hA => h1 A B h q hA
theorem shpC.trans (h : shpC z A B) (hj : jbS z A B) (h2 : shpC z B D) : shpC z A D := fun P h1 h3 h4 hA => h2 P h1 h3 (fun i hi => by
  rw [hj.1] at hi
  rw [hj.2.1, hj.2.2.1]
  exact h4 i hi) (h P h1 h3 h4 hA)
theorem jbS.refl : jbS z A A := ⟨rfl, fun _ => rfl, fun _ => rfl, fun _ => Or.inl rfl⟩
theorem jbS.trans (hz : zInj z) (h : jbS z A B) (h2 : jbS z B D) : jbS z A D := by
  obtain ⟨a1, a2, a3, a4⟩ := h
  obtain ⟨b1, b2, b3, b4⟩ := h2
  refine ⟨b1.trans a1, fun i => (b2 i).trans (a2 i), fun i => (b3 i).trans (a3 i), fun i => ?_⟩
  rcases a4 i with h | ⟨h, h'⟩ <;> rcases b4 i with g | ⟨g, g'⟩
  · exact Or.inl (g.trans h)
  · rw [h] at g
    exact Or.inr ⟨g, g'⟩
  · rw [← g] at h'
    exact Or.inr ⟨h, h'⟩
  · exact Or.inr ⟨h, g'⟩
/-- shape behind goOn -/
theorem goC (hs : ∃ s : Nat, 1 ≤ s ∧ s < 4 ∧ sT X 8 7 o = (z s : Nat)) (ho : o < sn X 8) (hmd : (sT X 8 1 o).toNat % 2 = 0) (h13 : sT X 8 13 o = -1) (hsep : ∀ l : Nat, l < sn X 6 → sT X 6 3 l ≠ (fOL X o : Nat)) (h5 : 0 ≤ sT X 8 5 o) (h1 : 0 ≤ sT X 8 1 o) (hp1 : sT X 8 7 o = (z 1 : Nat) → 0 < sT X 8 8 o) : shpC z X (fGoOn z X o) ∧ jbS z X (fGoOn z X o) := by
  unfold fGoOn
  split
  · rw [fFi_def]
    split
    · rename_i h88
      refine ⟨fun P h1' h3 h4 hA => h3 X o ⟨ho, hmd, h88, h13, hsep, h5, h1⟩ hs h4 hA, rfl, fun i => fB_8 (by omega), fun i => fB_8 (by omega), fun i => ?_⟩
      by_cases e : i = o
      · rw [e]
        exact Or.inr ⟨hs, 4, by decide, by decide, fB_87'⟩
      · exact Or.inl (fB_8 (by omega))
    · rename_i h88
      refine ⟨shpC.of ⟨fun c hc => fA_c (by omega), rfl, fun j i hj => (fA_c (by decide)).2.1 j i, rfl, fun j i hj => (fA_c (by decide)).2.1 j i, rfl, fun j i hj => fA_8 (by omega), fA_0 (by decide)⟩ ⟨fun i => fA_8 (by omega), fun i => by
        by_cases e : i = o
        · rw [e]
          exact Or.inr ⟨hs, hp1, Or.inr (by omega)⟩
        · exact Or.inl (fA_8 (by omega))⟩, rfl, fun i => fA_8 (by omega), fun i => fA_8 (by omega), fun i => ?_⟩
      by_cases e : i = o
      · rw [e]
        exact Or.inr ⟨hs, 4, by decide, by decide, fA_87⟩
      · exact Or.inl (fA_8 (by omega))
  · refine ⟨shpC.of ⟨fun c hc => (ceq.refl.set (by omega)).ssE (by omega), rfl, fun j i hj => rfl, rfl, fun j i hj => rfl, rfl, fun j i hj => by rw [sT_ssE, sT_set, if_neg (by omega)], rfl⟩ ⟨fun i => by rw [sT_ssE, sT_set, if_neg (by omega)], fun i => by
      by_cases e : i = o
      · rw [e]
        exact Or.inr ⟨hs, hp1, Or.inl ⟨2, by decide, by decide, by rw [sT_ssE, sT_set, if_pos ⟨rfl, rfl, rfl⟩]⟩⟩
      · exact Or.inl (by rw [sT_ssE, sT_set, if_neg (by omega)])⟩, rfl, fun i => by rw [sT_ssE, sT_set, if_neg (by omega)], fun i => by rw [sT_ssE, sT_set, if_neg (by omega)], fun i => ?_⟩
    by_cases e : i = o
    · rw [e]
      exact Or.inr ⟨hs, 2, by decide, by decide, by rw [sT_ssE, sT_set, if_pos ⟨rfl, rfl, rfl⟩]⟩
    · exact Or.inl (by rw [sT_ssE, sT_set, if_neg (by omega)])
theorem endR (hR : rR z X Y) (hI : iAll z k X) (hm : m < sn X 1) (hw : 0 ≤ sT X 1 7 m) : rR z (fEnd3 X m) (mEnd3 Y m) ∧ mWk Y m = fWk X m := by
  obtain ⟨w1, w2, w3, w4, w5⟩ := wk_facts hI hm hw
  have RM := hR.M.2 m hm
  have ew : mWk Y m = fWk X m := by
    unfold mWk fWk
    rw [RM.2.2.2.2.2.2.2 hw]
  have e8 : sT Y 15 8 (mWk Y m) = sT X 8 8 (fWk X m) := by rw [ew]; exact (hR.O.2 _ w2).2.1.2.1
  have ebr : emBr Y m ↔ eBr X m := by
    unfold emBr eBr
    rw [e8, RM.1.2.2.1, RM.2.2.1]
  have hG := hR.G
  refine ⟨⟨?_, ?_, ?_, ?_, ?_, ?_, ?_⟩, ew⟩
  · unfold rG at hG ⊢
    rw [(mE3_c (by decide)).2.1, (mE3_c (by decide)).2.1, (fE3_c (by decide)).2.1, (fE3_c (by decide)).2.1]
    exact hG
  · refine ⟨by rw [mE3_n, fE3_n]; exact hR.M.1, fun q hq => ?_⟩
    rw [fE3_n] at hq
    obtain ⟨b1, b2, b3, b4, b5, b6, b7, b8⟩ := hR.M.2 q hq
    by_cases e : q = m
    · subst e
      have m7 : sT (fEnd3 X q) 1 7 q = -1 := by rw [fE3_m, if_pos rfl]
      have m11 : sT (fEnd3 X q) 1 11 q = sT X 1 11 q + (sT X 0 6 0 - sT X 1 9 q) := by rw [fE3_m, if_neg (by decide), if_pos rfl]
      have mo : ∀ j : Nat, j ≠ 6 ∧ j ≠ 7 ∧ j ≠ 8 ∧ j ≠ 10 ∧ j ≠ 11 → sT (fEnd3 X q) 1 j q = sT X 1 j q := fun j hj => by
        rw [fE3_m, if_neg (by omega), if_neg (by omega), if_neg (by omega), if_neg (by omega), if_neg (by omega)]
      have m6 : sT (fEnd3 X q) 1 6 q = if eBr X q then 0 else sT X 1 6 q + sT X 8 8 (fWk X q) := by rw [fE3_m, if_neg (by decide), if_neg (by decide), if_pos rfl]
      have m8 : sT (fEnd3 X q) 1 8 q = if eBr X q then 1 else sT X 1 8 q := by rw [fE3_m, if_neg (by decide), if_neg (by decide), if_neg (by decide), if_pos rfl]
      have m10 : sT (fEnd3 X q) 1 10 q = if eBr X q then sT X 0 6 0 + sT X 1 3 q else sT X 1 10 q := by rw [fE3_m, if_neg (by decide), if_neg (by decide), if_neg (by decide), if_neg (by decide), if_pos rfl]
      have y10 : sT (mEnd3 Y q) 12 10 q = sT Y 12 10 q + (sT Y 11 8 0 - sT Y 12 8 q) := by rw [mE3_m, if_pos rfl]
      have y5 : sT (mEnd3 Y q) 12 5 q = if emBr Y q then 0 else sT Y 12 5 q + sT Y 15 8 (mWk Y q) := by rw [mE3_m, if_neg (by decide), if_pos rfl]
      have y6 : sT (mEnd3 Y q) 12 6 q = if emBr Y q then 98 else 45 := by rw [mE3_m, if_neg (by decide), if_neg (by decide), if_pos rfl]
      have y7 : sT (mEnd3 Y q) 12 7 q = if emBr Y q then sT Y 11 8 0 + sT Y 12 3 q else sT Y 12 7 q := by rw [mE3_m, if_neg (by decide), if_neg (by decide), if_neg (by decide), if_pos rfl]
      have yo : ∀ j : Nat, j ≠ 5 ∧ j ≠ 6 ∧ j ≠ 7 ∧ j ≠ 10 → sT (mEnd3 Y q) 12 j q = sT Y 12 j q := fun j hj => by
        rw [mE3_m, if_neg (by omega), if_neg (by omega), if_neg (by omega), if_neg (by omega)]
      unfold fState
      rw [yo 0 (by decide), yo 1 (by decide), yo 2 (by decide), yo 3 (by decide), yo 4 (by decide), yo 8 (by decide), y5, y6, y7, y10, m6, m7, m8, m10, m11, mo 0 (by decide), mo 1 (by decide), mo 2 (by decide), mo 3 (by decide), mo 5 (by decide), mo 9 (by decide)]
      refine ⟨b1, b2, ?_, ?_, ?_, b6, by rw [b7, b6, hG.2], fun w => absurd w (by decide)⟩
      · by_cases hbr : eBr X q
        · rw [if_pos (ebr.mpr hbr), if_pos hbr]
        · rw [if_neg (fun w => hbr (ebr.mp w)), if_neg hbr, b3, e8]
      · by_cases hbr : eBr X q
        · rw [if_pos (ebr.mpr hbr), if_pos hbr]; rfl
        · rw [if_neg (fun w => hbr (ebr.mp w)), if_neg hbr, w5]; rfl
      · by_cases hbr : eBr X q
        · rw [if_pos (ebr.mpr hbr), if_pos hbr, hG.2, b1.2.2.2]
        · rw [if_neg (fun w => hbr (ebr.mp w)), if_neg hbr, b5]
    · have es : fState (fEnd3 X m) q = fState X q := by
        unfold fState
        rw [fE3_1 e, fE3_1 e]
      simp only [mE3_12 e, fE3_1 e, es]
      exact ⟨b1, b2, b3, b4, b5, b6, b7, b8⟩
  · exact rP_congr (X' := fEnd3 X m) (X := X) (Y' := mEnd3 Y m) (Y := Y) (fun c j i hc => (fE3_c (by omega)).2.1 j i) (fun c i hc => fE3_E) (fun j i => (mE3_c (by decide)).2.1 j i) (fun c i hc => mE3_E) mE3_n hR.P
  · exact hR.L.gr (pgr.same fE3_E) (fE3_c (by decide)) (fE3_c (by decide)) (fE3_c (by decide)) (mE3_c (by decide)) (mE3_c (by decide))
  · refine ⟨by rw [mE3_n, fE3_n]; exact hR.O.1, fun q hq => ?_⟩
    rw [fE3_n] at hq
    obtain ⟨g1, g2, g3, g4⟩ := hR.O.2 q hq
    have v8 : ∀ j : Nat, j ≠ 9 → sT (fEnd3 X m) 8 j q = sT X 8 j q := fun j hj => fE3_8 (by omega)
    have m15 : ∀ j : Nat, j ≠ 9 → sT (mEnd3 Y m) 15 j q = sT Y 15 j q := fun j hj => mE3_15 (by omega)
    refine ⟨rOa_congr (fun j hj => v8 j (by omega)) fE3_E (fun j hj => m15 j (by omega)) g1, ⟨?_, ?_, ?_, ?_, ?_⟩, ⟨?_, ?_⟩, ?_⟩
    · obtain ⟨s, hs⟩ := g2.1
      exact ⟨s, rOs_congr (fun j hj => v8 j (by omega)) (fun j hj => m15 j (by omega)) hs⟩
    · rw [m15 8 (by decide), v8 8 (by decide)]; exact g2.2.1
    · by_cases e : q = fWk X m
      · have e1 : sT (mEnd3 Y m) 15 9 q = sT Y 15 9 q + 1 := by rw [e, ← ew]; exact mE3_159
        have e2 : sT (fEnd3 X m) 8 9 q = sT X 8 9 q + 1 := by rw [e]; exact fE3_89
        rw [e1, e2, g2.2.2.1]
      · rw [mE3_15 (by rw [ew]; omega), fE3_8 (by omega)]; exact g2.2.2.1
    · rw [m15 11 (by decide), v8 10 (by decide)]; exact g2.2.2.2.1
    · rw [m15 12 (by decide), v8 13 (by decide)]; exact g2.2.2.2.2
    · rw [fTl_congr (congrArg Int.toNat (v8 5 (by decide))) fE3_E (fun t _ => ⟨(fE3_c (by decide)).2.1 0 _, (fE3_c (by decide)).2.1 1 _⟩), mTl_congr mE3_E mE3_E (fun x _ => (mE3_c (by decide)).2.1 0 _)]
      exact g3.1
    · rw [mE3_E, mE3_E]; exact g3.2
    · exact rD_congr (congrArg Int.toNat (v8 6 (by decide))) fE3_E (fun t _ => ⟨(fE3_c (by decide)).2.1 0 _, (fE3_c (by decide)).2.1 2 _⟩) mE3_E (m15 15 (by decide)) g4
  · exact rQ_congr (fun q _ => fE3_E) fE3_n fE3_n (fun x _ => ⟨mE3_15 (by omega), mE3_15 (by omega)⟩) hR.Q
  · exact rS_congr (fun x _ => ⟨fE3_E, (fE3_c (by decide)).2.1 0 x⟩) (fun c i hc => mE3_E) mE3_n hR.S
end ZCA3
