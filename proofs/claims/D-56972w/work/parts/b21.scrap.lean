/-! THE SIMULATION: scrap -/
set_option maxRecDepth 100000
section ZBS1
variable {z : Nat → Nat} {k : Nat} {X Y : hS} {o : Nat} {v : Int}
theorem s88_ceq {d : Nat} (h : d ≠ 8) : ceq X (sset X 8 8 o v) d := ceq.refl.set h
theorem s88_T {j q : Nat} (h : j ≠ 8) : sT (sset X 8 8 o v) 8 j q = sT X 8 j q := by
  rw [sT_set, if_neg (fun w => h w.2.1)]
theorem s88_8 {q : Nat} : sT (sset X 8 8 o v) 8 8 q = if q = o then v else sT X 8 8 q := by
  rw [sT_set]
  by_cases h : q = o
  · rw [if_pos ⟨rfl, rfl, h⟩, if_pos h]
  · rw [if_neg (fun w => h w.2.2), if_neg h]
/-- lots left to make, changed in one order that is under way -/
theorem pair88 (hz : zInj z) (hR : rR z X Y) (hI : iAll z k X) (hS : mShape Y) (hB : mBox Y) (hv : 0 ≤ v ∧ v ≤ 100) (hw : sT X 8 7 o ≠ (z 0 : Nat) ∧ sT X 8 7 o ≠ (z 1 : Nat)) :
    rR z (sset X 8 8 o v) (sset (mt Y 0) 15 8 o v) ∧ iAll z k (sset X 8 8 o v) ∧ mShape (sset (mt Y 0) 15 8 o v) ∧ mBox (sset (mt Y 0) 15 8 o v) := by
  have u := fun (d : Nat) (h : d ≠ 8) => s88_ceq (X := X) (o := o) (v := v) h
  have g : ∀ d : Nat, d ≠ 11 ∧ d ≠ 15 → ceq Y (sset (mt Y 0) 15 8 o v) d := fun d h => (ceq.refl.set h.1).set h.2
  have m11 : ∀ j i : Nat, j ≠ 0 → sT (sset (mt Y 0) 15 8 o v) 11 j i = sT Y 11 j i := fun j i hj => by
    rw [sT_set, if_neg (by omega), sT_set, if_neg (by omega)]
  have m15 : ∀ j i : Nat, j ≠ 8 → sT (sset (mt Y 0) 15 8 o v) 15 j i = sT Y 15 j i := fun j i hj => by
    rw [sT_set, if_neg (by omega), sT_set, if_neg (by omega)]
  have m158 : ∀ q : Nat, sT (sset (mt Y 0) 15 8 o v) 15 8 q = if q = o then v else sT Y 15 8 q := fun q => by
    rw [sT_set]
    by_cases h : q = o
    · rw [if_pos ⟨rfl, rfl, h⟩, if_pos h]
    · rw [if_neg (fun w => h w.2.2), if_neg h, sT_set, if_neg (by omega)]
  have t0 := fun q : Nat => s88_T (X := X) (o := o) (v := v) (j := 0) (q := q) (by decide)
  have t1 := fun q : Nat => s88_T (X := X) (o := o) (v := v) (j := 1) (q := q) (by decide)
  have t2 := fun q : Nat => s88_T (X := X) (o := o) (v := v) (j := 2) (q := q) (by decide)
  have t3 := fun q : Nat => s88_T (X := X) (o := o) (v := v) (j := 3) (q := q) (by decide)
  have t4 := fun q : Nat => s88_T (X := X) (o := o) (v := v) (j := 4) (q := q) (by decide)
  have t5 := fun q : Nat => s88_T (X := X) (o := o) (v := v) (j := 5) (q := q) (by decide)
  have t6 := fun q : Nat => s88_T (X := X) (o := o) (v := v) (j := 6) (q := q) (by decide)
  have t7 := fun q : Nat => s88_T (X := X) (o := o) (v := v) (j := 7) (q := q) (by decide)
  have t9 := fun q : Nat => s88_T (X := X) (o := o) (v := v) (j := 9) (q := q) (by decide)
  have t10 := fun q : Nat => s88_T (X := X) (o := o) (v := v) (j := 10) (q := q) (by decide)
  have t11 := fun q : Nat => s88_T (X := X) (o := o) (v := v) (j := 11) (q := q) (by decide)
  have t12 := fun q : Nat => s88_T (X := X) (o := o) (v := v) (j := 12) (q := q) (by decide)
  have t13 := fun q : Nat => s88_T (X := X) (o := o) (v := v) (j := 13) (q := q) (by decide)
  have n8 : sn (sset X 8 8 o v) 8 = sn X 8 := rfl
  have n15 : sn (sset (mt Y 0) 15 8 o v) 15 = sn Y 15 := rfl
  have htl : ∀ q : Nat, fTl (sset X 8 8 o v) q = fTl X q := fun q => rfl
  have hdv : ∀ q : Nat, fDv (sset X 8 8 o v) q = fDv X q := fun q => rfl
  refine ⟨⟨?_, ?_, ?_, ?_, ?_, ?_, ?_⟩, ?_, ?_, ?_⟩
  · have hg := hR.G
    unfold rG at hg ⊢
    rw [m11 5 0 (by decide), m11 8 0 (by decide), (u 0 (by decide)).2.1, (u 0 (by decide)).2.1]
    exact hg
  · exact rM_congr (fun k i => (u 1 (by decide)).2.1 k i) (u 1 (by decide)).1 (fun k i => (g 12 (by decide)).2.1 k i) (g 12 (by decide)).1 hR.M
  · exact rP_congr (fun c k i hc => (u c (by omega)).2.1 k i) (fun c i hc => (u c (by omega)).2.2 i) (fun k i => (g 13 (by decide)).2.1 k i) (fun c i hc => (g c (by omega)).2.2 i) (g 13 (by decide)).1 hR.P
  · exact hR.L.gr (pgr.same ((u 21 (by decide)).2.2 0)) (u 6 (by decide)) (u 7 (by decide)) (u 26 (by decide)) (g 14 (by decide)) (g 41 (by decide))
  · refine ⟨hR.O.1, fun q hq => ?_⟩
    obtain ⟨g1, g2, g3, g4⟩ := hR.O.2 q hq
    refine ⟨rOa_congr (fun j hj => s88_T (by omega)) ((u 21 (by decide)).2.2 0) (fun j hj => m15 j q (by omega)) g1, ⟨?_, ?_, ?_, ?_, ?_⟩, ⟨?_, ?_⟩, ?_⟩
    · obtain ⟨s, hs⟩ := g2.1
      exact ⟨s, rOs_congr (fun j hj => s88_T (by omega)) (fun j hj => m15 j q (by omega)) hs⟩
    · rw [m158, s88_8]
      by_cases e : q = o
      · rw [if_pos e, if_pos e]
      · rw [if_neg e, if_neg e]; exact g2.2.1
    · rw [m15 9 q (by decide), t9]; exact g2.2.2.1
    · rw [m15 11 q (by decide), t10]; exact g2.2.2.2.1
    · rw [m15 12 q (by decide), t13]; exact g2.2.2.2.2
    · rw [htl, mTl_congr ((g 38 (by decide)).2.2 q) ((g 39 (by decide)).2.2 q) (fun x _ => (g 19 (by decide)).2.1 0 x.toNat)]
      exact g3.1
    · rw [(g 38 (by decide)).2.2, (g 39 (by decide)).2.2]
      exact g3.2
    · exact rD_congr (by unfold fDelL; rw [t6]) rfl (fun t _ => ⟨rfl, rfl⟩) ((g 40 (by decide)).2.2 q) (m15 15 q (by decide)) g4
  · exact rQ_congr (fun m _ => (u 45 (by decide)).2.2 m) (u 1 (by decide)).1 rfl (fun q _ => ⟨m15 5 q (by decide), m15 10 q (by decide)⟩) hR.Q
  · exact rS_congr (fun x _ => ⟨(u 28 (by decide)).2.2 x, (u 9 (by decide)).2.1 0 x⟩) (fun d i hd => (g d (by omega)).2.2 i) (g 35 (by decide)).1 hR.S
  · obtain ⟨i1, i2, i3, i4, i5, i6, i7, i8, i9, i10, i11, i12, i13, i14⟩ := hI
    refine ⟨i1, i2.cg (u 2 (by decide)) (u 3 (by decide)) (u 4 (by decide)) (u 5 (by decide)) (u 21 (by decide)) (u 24 (by decide)) (u 25 (by decide)) (Nat.le_refl _), i3.cg (u 0 (by decide)) (u 1 (by decide)) (u 45 (by decide)).1, i4.cg (u 6 (by decide)) (u 7 (by decide)) (u 21 (by decide)) (u 26 (by decide)), i5.cg (u 6 (by decide)).1 (u 7 (by decide)) (u 26 (by decide)) (u 27 (by decide)), ?_, ?_, ?_, ?_, ?_, ?_, ?_, ?_, i14.cg (u 9 (by decide)) (u 28 (by decide)) (u 48 (by decide))⟩
    · intro q hq
      obtain ⟨a0, a1, a2, a3, a4, a5, a6, a7, a8, a9, a10, a11, a12, a13, a14, a15, a16⟩ := i6 q hq
      rw [t0, t1, t2, t3, t4, t5, t6, t7, t9, t10, t11, t12, t13, s88_8]
      refine ⟨a0, a1, a2, a3, a4, a5, a6, a7, ?_, a9, a10, a11, a12, a13, fun w => ?_, a15, a16⟩
      · split
        · exact hv
        · exact a8
      · obtain ⟨b1, b2, b3⟩ := a14 w
        refine ⟨b1, ?_, b3⟩
        rw [if_neg (fun e => by
          rw [e] at w
          exact w.elim hw.1 hw.2)]
        exact b2
    · unfold iSp at i7 ⊢
      simp only [t5, t6, t7]
      exact i7
    · unfold iQw at i8 ⊢
      have hq : ∀ j : Nat, fQok X j → fQok (sset X 8 8 o v) j := fun j h => by
        have e1 : fOpL (sset X 8 8 o v) j = fOpL X j := rfl
        unfold fQok at h ⊢
        rw [t1, t9, e1, s88_8]
        refine ⟨h.1, h.2.1, ?_⟩
        split
        · exact hv
        · exact h.2.2
      obtain ⟨a1, a2, a3⟩ := i8
      refine ⟨fun m hm x hx => ?_, fun m hm => ?_, a3⟩
      · obtain ⟨b1, b2, b3, b4⟩ := a1 m hm x hx
        rw [t7]
        exact ⟨b1, b2, b3, hq _ b4⟩
      · obtain ⟨b1, b2⟩ := a2 m hm
        refine ⟨b1, fun h => ?_⟩
        obtain ⟨d1, d2, d3, d4⟩ := b2 h
        rw [show sT (sset X 8 8 o v) 8 7 (sT (sset X 8 8 o v) 1 7 m).toNat = _ from t7 _]
        exact ⟨d1, d2, d3, hq _ d4⟩
    · unfold iRes iRb fPr at i9 ⊢
      simp only [t7, htl, hdv]
      exact i9
    · unfold iCo fSumO fSumL fCoO fUw fStg fDelL at i10 ⊢
      simp only [t7, t10, t6]
      exact i10
    · unfold iHd iHb fPr fOL at i11 ⊢
      simp only [t7, t5]
      exact i11
    · unfold iEm fOL fDelL at i12 ⊢
      simp only [t7, t5, t6]
      exact i12
    · unfold iCn at i13 ⊢
      simp only [t7]
      exact i13
  · obtain ⟨s1, s2, s3, s4, s5⟩ := hS
    refine ⟨?_, s2, s3, fun q hq => ?_, s5⟩
    · unfold mFix at s1 ⊢
      rw [m11 1 0 (by decide), m11 2 0 (by decide), m11 3 0 (by decide), m11 4 0 (by decide), m11 6 0 (by decide), m11 7 0 (by decide)]
      exact s1
    · rw [m15 0 q (by decide), m15 6 q (by decide), m15 7 q (by decide), m15 16 q (by decide), m15 10 q (by decide), m15 5 q (by decide)]
      exact s4 q hq
  · exact hB
theorem scrapCode (hz : zInj z) (hR : rR z X Y) (ho : o < sn X 8) {n : Int} : mScC Y (o : Nat) n = (fScrapCode z X o n : Nat) := by
  have h15 : sn Y 15 = sn X 8 := hR.O.1
  obtain ⟨s, s6, s7, s8⟩ := hR.st (o := o) (by omega)
  have h8 := (hR.O.2 o ho).2.1.2.1
  have e1 : (sT Y 15 5 o = 119 ∨ sT Y 15 5 o = 111) ↔ fUw z X o = true := by
    unfold fUw
    rw [Bool.or_eq_true, fStg_iff hz s6 (t := 2) (by decide) s7, fStg_iff hz s6 (t := 3) (by decide) s7, s8]
    have := stL_cases s6
    omega
  unfold mScC fScrapCode
  rw [if_neg (show ¬ ¬ (0 ≤ ((o : Nat) : Int) ∧ ((o : Nat) : Int) < sn Y 15) from fun q => q ⟨by omega, by omega⟩), Int.toNat_natCast, h8]
  by_cases h2 : fUw z X o = true
  · rw [if_neg (show ¬ ¬ (sT Y 15 5 o = 119 ∨ sT Y 15 5 o = 111) from fun q => q (e1.mpr h2)), if_neg (show ¬ fUw z X o = false by rw [h2]; decide)]
    by_cases h3 : 1 ≤ n ∧ n ≤ sT X 8 8 o
    · rw [if_neg (fun q => q h3), if_neg (fun q => q h3)]
      rfl
    · rw [if_pos h3, if_pos h3]
      rfl
  · have h2' : fUw z X o = false := by
      cases h : fUw z X o with
      | false => rfl
      | true => exact absurd h h2
    rw [if_pos (show ¬ (sT Y 15 5 o = 119 ∨ sT Y 15 5 o = 111) from fun q => h2 (e1.mp q)), if_pos h2']
    rfl
end ZBS1
