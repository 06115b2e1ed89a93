/-! THE SIMULATION: a tick, on both sides -/
set_option maxRecDepth 100000
section ZCA5
variable {z : Nat → Nat} {k m o : Nat} {X Y T U : hS}
theorem dueEq (hR : rR z X Y) (hI : iAll z k X) (hm : m < sn X 1) : mDueM Y m = fDue X m := by
  have RM := hR.M.2 m hm
  have h8 := (hI.mc.2.2 m hm).2.1
  have h6 : sT Y 12 6 m = fState X m := RM.2.2.2.1
  have h7 : sT Y 12 7 m = sT X 1 10 m := RM.2.2.2.2.1
  unfold mDueM fDue fFree
  rw [h6, h7, hR.G.2]
  congr 1
  unfold fState
  by_cases c8 : sT X 1 8 m = 1
  · rw [if_pos c8, c8]
    have e : ((1 : Int) == 0) = false := rfl
    rw [e, Bool.and_false]; rfl
  · have c0 : sT X 1 8 m = 0 := by omega
    rw [if_neg c8, c0]
    have e : ((0 : Int) == 0) = true := rfl
    rw [e, Bool.and_true]
    by_cases c7 : sT X 1 7 m < 0
    · rw [if_pos c7, decide_eq_true c7]; rfl
    · rw [if_neg c7, decide_eq_false c7]; rfl
theorem pairNow (hR : rR z X Y) (hI : iAll z k X) (hS : mShape Y) (hB : mBox Y) (hn : sT X 0 6 0 + 1 ≤ 5000) : tkP z k X Y (sset X 0 6 0 (sT X 0 6 0 + 1)) (sset Y 11 8 0 (sT Y 11 8 0 + 1)) 0 0 := by
  have u : ∀ c : Nat, c ≠ 0 → ceq X (sset X 0 6 0 (sT X 0 6 0 + 1)) c := fun c h => ceq.refl.set h
  have g : ∀ c : Nat, c ≠ 11 → ceq Y (sset Y 11 8 0 (sT Y 11 8 0 + 1)) c := fun c h => ceq.refl.set h
  have v0 : ∀ j : Nat, j ≠ 6 → sT (sset X 0 6 0 (sT X 0 6 0 + 1)) 0 j 0 = sT X 0 j 0 := fun j h => by rw [sT_set, if_neg (by omega)]
  have v06 : sT (sset X 0 6 0 (sT X 0 6 0 + 1)) 0 6 0 = sT X 0 6 0 + 1 := by rw [sT_set, if_pos ⟨rfl, rfl, rfl⟩]
  have w11 : ∀ j : Nat, j ≠ 8 → sT (sset Y 11 8 0 (sT Y 11 8 0 + 1)) 11 j 0 = sT Y 11 j 0 := fun j h => by rw [sT_set, if_neg (by omega)]
  have w8 : sT (sset Y 11 8 0 (sT Y 11 8 0 + 1)) 11 8 0 = sT Y 11 8 0 + 1 := by rw [sT_set, if_pos ⟨rfl, rfl, rfl⟩]
  refine ⟨⟨?_, hR.M, ?_, ?_, hR.O, hR.Q, ?_⟩, ?_, ?_, hB, mfr.refl.set (Or.inl (by decide)), ⟨fun _ _ => rfl, fun c j i hc => by rw [sT_set, if_neg (by rintro ⟨rfl, -⟩; exact absurd hc (by decide))], fun _ _ _ => rfl⟩, fun _ => Nat.le_refl _, fun _ => Nat.le_refl _, by rw [v0 7 (by decide), v0 8 (by decide)]; omega, w11 0 (by decide), rfl, shpC.of ⟨fun c hc => u c (by omega), rfl, fun _ _ _ => rfl, rfl, fun _ _ _ => rfl, rfl, fun _ _ _ => rfl, v0 5 (by decide)⟩ ⟨fun _ => rfl, fun _ => Or.inl rfl⟩, jbS.refl, by show isum (sn X 8) (fun o => sT X 8 9 o) = _; omega⟩
  · have hG := hR.G
    unfold rG at hG ⊢
    rw [w11 5 (by decide), w8, v0 5 (by decide), v06, hG.1, hG.2]
    exact ⟨rfl, rfl⟩
  · exact rP_congr (X' := sset X 0 6 0 (sT X 0 6 0 + 1)) (X := X) (Y' := sset Y 11 8 0 (sT Y 11 8 0 + 1)) (Y := Y) (fun c j i hc => (u c (by omega)).2.1 j i) (fun c i hc => rfl) (fun j i => (g 13 (by decide)).2.1 j i) (fun c i hc => rfl) rfl hR.P
  · exact hR.L.gr (pgr.same rfl) (u 6 (by decide)) (u 7 (by decide)) (u 26 (by decide)) (g 14 (by decide)) (g 41 (by decide))
  · exact rS_congr (fun x _ => ⟨rfl, rfl⟩) (fun c i hc => rfl) rfl hR.S
  · obtain ⟨i1, i2, i3, i4, i5, i6, i7, i8, i9, i10, i11, i12, i13, i14⟩ := hI
    refine ⟨?_, i2.cg (u 2 (by decide)) (u 3 (by decide)) (u 4 (by decide)) (u 5 (by decide)) (u 21 (by decide)) (u 24 (by decide)) (u 25 (by decide)) (Nat.le_refl _), ?_, i4, i5, i6, i7, i8, i9, ?_, i11, i12, ?_, i14⟩
    · unfold fFix at i1 ⊢
      rw [v0 0 (by decide), v0 1 (by decide), v0 2 (by decide), v0 3 (by decide), v0 4 (by decide)]
      exact i1
    · obtain ⟨a1, a2, a3⟩ := i3
      refine ⟨a1, by rw [v06]; omega, fun q hq => ?_⟩
      obtain ⟨b1, b2, b3, b4, b5, b6, b7, b8, b9⟩ := a3 q hq
      rw [v06]
      refine ⟨b1, b2, b3, b4, b5, b6, ⟨b7.1, ?_⟩, b8, ?_⟩
      · show sT X 1 9 q ≤ sT X 0 6 0 + 1
        omega
      · show (if sT X 1 7 q < 0 then sT X 1 11 q else sT X 1 11 q + (sT X 0 6 0 + 1 - sT X 1 9 q)) ≤ sT X 0 6 0 + 1
        by_cases h : sT X 1 7 q < 0
        · rw [if_pos h] at b9 ⊢; omega
        · rw [if_neg h] at b9 ⊢; omega
    · obtain ⟨a1, a2, a3, a4, a5, a6⟩ := i10
      refine ⟨a1, a2, a3, by rw [v0 9 (by decide)]; exact a4, ?_, ?_⟩
      · rw [v0 7 (by decide), v0 8 (by decide)]
        unfold fSumO fSumL at a5 ⊢
        rw [v0 9 (by decide)]
        exact a5
      · rw [v0 7 (by decide), v0 8 (by decide)]; exact a6
    · unfold iCn at i13 ⊢
      rw [v0 5 (by decide)]
      exact i13
  · obtain ⟨s1, s2, s3, s4, s5⟩ := hS
    refine ⟨?_, s2, s3, s4, s5⟩
    unfold mFix at s1 ⊢
    rw [w11 1 (by decide), w11 2 (by decide), w11 3 (by decide), w11 4 (by decide), w11 6 (by decide), w11 7 (by decide)]
    exact s1
/-- one machine, if its job is due -/
theorem pairEnd (hz : zInj z) (hR : rR z X Y) (hI : iAll z k X) (hS : mShape Y) (hB : mBox Y) (hm : m < sn X 1) {c c1 c2 : Nat} :
    tkP z k X Y (fEndStep z (X, c) m).1 (mEndStep (Y, c1, c2) m).1 0 (((fEndStep z (X, c) m).2 : Int) - c) ∧ c ≤ (fEndStep z (X, c) m).2 ∧ ((mEndStep (Y, c1, c2) m).2.1 + 5 * c ≤ c1 + 5 * (fEndStep z (X, c) m).2 ∧ (mEndStep (Y, c1, c2) m).2.2 + 1520 * c ≤ c2 + 1520 * (fEndStep z (X, c) m).2) ∧
    (fDue X m = true → fEndOk X m) ∧ (mDueM Y m = true → mEndOk Y m) := by
  have hd := dueEq hR hI hm
  have h8 := (hI.mc.2.2 m hm).2.1
  have RM := hR.M.2 m hm
  have h6 : sT Y 12 6 m = fState X m := RM.2.2.2.1
  unfold fEndStep mEndStep
  rw [hd]
  by_cases hdu : fDue X m = true
  · rw [if_pos hdu, if_pos hdu]
    unfold fEnd mEnd fEk mEk
    by_cases c8 : sT X 1 8 m = 1
    · have e6 : sT Y 12 6 m ≠ 111 := by
        rw [h6]; unfold fState; rw [if_pos c8]; decide
      rw [if_pos c8, if_pos c8, if_neg e6, if_neg e6]
      refine ⟨?_, Nat.le_refl _, ⟨Nat.le_refl _, Nat.le_refl _⟩, fun _ => ⟨h8, fun w => by omega⟩, fun _ w => absurd w e6⟩
      have := pairMend hR hI hS hB hm c8
      have e0 : (((c + 0 : Nat) : Int)) - c = 0 := by omega
      rw [e0]
      exact this
    · have c0 : sT X 1 8 m = 0 := by omega
      have hw : 0 ≤ sT X 1 7 m := by
        unfold fDue fFree at hdu
        rw [c0] at hdu
        by_cases h : sT X 1 7 m < 0
        · rw [decide_eq_true h] at hdu
          exact absurd hdu (by
            have e : (!(true && ((0 : Int) == 0))) = false := rfl
            rw [e, Bool.false_and]; decide)
        · omega
      have e6 : sT Y 12 6 m = 111 := by
        rw [h6]; unfold fState; rw [if_neg c8, if_neg (by omega)]
      obtain ⟨t1, t2, t3, t4⟩ := pairEndW hz hR hI hS hB hm hw
      have l400 : (sE Y 38 (mWk Y m)).length ≤ 400 := by
        obtain ⟨-, w2, -⟩ := wk_facts hI hm hw
        have ew := (endR hR hI hm hw).2
        rw [ew]
        exact (hR.len hI (by rw [hR.O.1]; exact w2)).2.2
      have hM := (hI.mc.2.2 m hm)
      have h88 := (wk_facts hI hm hw).2.2.2.1.2.2
      have e8 : sT Y 15 8 (mWk Y m) = sT X 8 8 (fWk X m) := by
        rw [(endR hR hI hm hw).2]
        exact (hR.O.2 _ (wk_facts hI hm hw).2.1).2.1.2.1
      rw [if_neg c8, if_neg c8, if_pos e6, if_pos e6]
      refine ⟨?_, Nat.le_succ _, ⟨by show c1 + 5 + 5 * c ≤ c1 + 5 * (c + 1); omega, by show c2 + (320 + 3 * (sE Y 38 (mWk Y m)).length) + 1520 * c ≤ c2 + 1520 * (c + 1); omega⟩, fun _ => ⟨h8, fun _ => ⟨hw, ?_, ?_, ?_, t2⟩⟩, fun _ _ => ⟨t4, ?_, ?_, t3⟩⟩
      · have e1 : (((c + 1 : Nat) : Int)) - c = 1 := by omega
        rw [e1]
        exact t1
      · have := hI.mc.2.1
        exact ⟨by omega, by omega⟩
      · exact ⟨by omega, by omega⟩
      · exact ⟨by omega, by omega⟩
      · rw [e8, RM.2.2.1]
        exact ⟨by omega, by omega⟩
      · rw [RM.1.2.2.1]
        exact ⟨by omega, by omega⟩
  · rw [if_neg hdu, if_neg hdu]
    refine ⟨⟨hR, hI, hS, hB, mfr.refl, ffr.refl, fun _ => Nat.le_refl _, fun _ => Nat.le_refl _, by show sT X 0 7 0 + sT X 0 8 0 ≤ sT X 0 7 0 + sT X 0 8 0 + 0; omega, rfl, rfl, shpC.refl, jbS.refl, by show isum (sn X 8) (fun o => sT X 8 9 o) = isum (sn X 8) (fun o => sT X 8 9 o) + (((c : Nat) : Int) - c); omega⟩, Nat.le_refl _, ⟨Nat.le_refl _, Nat.le_refl _⟩, fun w => absurd w hdu, fun w => absurd w hdu⟩
/-- all machines -/
theorem pairEndN (hz : zInj z) (hR : rR z X Y) (hI : iAll z k X) (hS : mShape Y) (hB : mBox Y) : ∀ p : Nat, p ≤ sn X 1 → tkP z k X Y (fEndN z X p).1 (mEndN Y p).1 0 ((fEndN z X p).2 : Int) ∧ ((mEndN Y p).2.1 ≤ 1 + 5 * (fEndN z X p).2 ∧ (mEndN Y p).2.2 ≤ 4 + 1520 * (fEndN z X p).2) := by
  intro p
  induction p with
  | zero =>
    intro _
    refine ⟨⟨hR, hI, hS, hB, mfr.refl, ffr.refl, fun _ => Nat.le_refl _, fun _ => Nat.le_refl _, by show sT X 0 7 0 + sT X 0 8 0 ≤ _; omega, rfl, rfl, shpC.refl, jbS.refl, ?_⟩, Nat.le_refl _, Nat.le_refl _⟩
    show isum (sn X 8) (fun o => sT X 8 9 o) = _ + ((0 : Nat) : Int)
    omega
  | succ p ih =>
    intro hp
    obtain ⟨t, c1, c2⟩ := ih (by omega)
    rw [fEndN_succ, mEndN_succ]
    generalize fEndN z X p = F at *
    generalize mEndN Y p = G at *
    obtain ⟨A, a⟩ := F
    obtain ⟨B, b1, b2⟩ := G
    have t' := t
    obtain ⟨t1, t2, t3, t4, -, -, -, -, -, -, t11, -⟩ := t'
    obtain ⟨s1, s2, ⟨s3, s4⟩, -⟩ := pairEnd (c := a) (c1 := b1) (c2 := b2) hz t1 t2 t3 t4 (m := p) (by rw [t11]; omega)
    refine ⟨?_, ?_, ?_⟩
    · have h := t.trans hz s1
      have e : ((a : Nat) : Int) + (((fEndStep z (A, a) p).2 : Int) - a) = ((fEndStep z (A, a) p).2 : Int) := by omega
      have e0 : (0 : Int) + 0 = 0 := rfl
      show tkP z k X Y (fEndStep z (A, a) p).1 (mEndStep (B, b1, b2) p).1 0 ((fEndStep z (A, a) p).2 : Int)
      rw [← e]
      exact h
    · have c1 : b1 ≤ 1 + 5 * a := c1
      have s3 : (mEndStep (B, b1, b2) p).2.1 + 5 * a ≤ b1 + 5 * (fEndStep z (A, a) p).2 := s3
      omega
    · have c2 : b2 ≤ 4 + 1520 * a := c2
      have s4 : (mEndStep (B, b1, b2) p).2.2 + 1520 * a ≤ b2 + 1520 * (fEndStep z (A, a) p).2 := s4
      omega
end ZCA5
