/-! THE SIMULATION: a machine ends its job: the invariants and the relation -/
set_option maxRecDepth 100000
section ZCA2
variable {z : Nat → Nat} {k m o : Nat} {X Y : hS}
theorem wk_facts (hI : iAll z k X) (hm : m < sn X 1) (hw : 0 ≤ sT X 1 7 m) : ((fWk X m : Nat) : Int) = sT X 1 7 m ∧ fWk X m < sn X 8 ∧ sT X 8 7 (fWk X m) = (z 3 : Nat) ∧ fQok X (fWk X m) ∧ sT X 1 8 m = 0 := by
  obtain ⟨-, h2⟩ := hI.qw.2.1 m hm
  obtain ⟨a1, a2, a3, a4⟩ := h2 hw
  have e : ((fWk X m : Nat) : Int) = sT X 1 7 m := by unfold fWk; omega
  exact ⟨e, by omega, a3, a4, a1⟩
theorem endInv (hz : zInj z) (hI : iAll z k X) (hm : m < sn X 1) (hw : 0 ≤ sT X 1 7 m) : iAll z k (sset (fEnd3 X m) 8 7 (fWk X m) (z 2 : Nat)) := by
  obtain ⟨w1, w2, w3, w4, w5⟩ := wk_facts hI hm hw
  have hl3 : (sE X 25 (fOpL X (fWk X m))).length ≤ 3 := by
    obtain ⟨p, hp, e1⟩ := (hI.or _ w2).2.1
    have hmd := w4.1.2
    rcases hI.pt.pc hp with ⟨q1, q2, q3⟩ | ⟨q1, q2, q3⟩
    · have e : fOpL X (fWk X m) = fPc X p / 2 := by
        unfold fOpL
        rw [e1, Int.toNat_natCast, (hI.pt.2.2.2.1 _ q2).2.1, Int.toNat_natCast]
      rw [e]
      exact (hI.pt.2.2.2.1 _ q2).2.2.2
    · rw [e1, Int.toNat_natCast] at hmd
      omega
  generalize ho : fWk X m = o at *
  obtain ⟨i1, i2, i3, i4, i5, i6, i7, i8, i9, i10, i11, i12, i13, i14⟩ := hI
  have u : ∀ c : Nat, c ≠ 1 ∧ c ≠ 8 → ceq X (sset (fEnd3 X m) 8 7 o (z 2 : Nat)) c := fun c h => (fE3_c h).set h.2
  have v8 : ∀ j i : Nat, ¬ ((j = 7 ∨ j = 9) ∧ i = o) → sT (sset (fEnd3 X m) 8 7 o (z 2 : Nat)) 8 j i = sT X 8 j i := fun j i h => by
    rw [sT_set, if_neg (by omega), fE3_8 (by rw [ho]; omega)]
  have v87 : sT (sset (fEnd3 X m) 8 7 o (z 2 : Nat)) 8 7 o = (z 2 : Nat) := by rw [sT_set, if_pos ⟨rfl, rfl, rfl⟩]
  have v89 : sT (sset (fEnd3 X m) 8 7 o (z 2 : Nat)) 8 9 o = sT X 8 9 o + 1 := by
    rw [sT_set, if_neg (by omega), ← ho, fE3_89]
  have n8 : sn (sset (fEnd3 X m) 8 7 o (z 2 : Nat)) 8 = sn X 8 := fE3_n
  have n1 : sn (sset (fEnd3 X m) 8 7 o (z 2 : Nat)) 1 = sn X 1 := fE3_n
  have t1 : ∀ j i : Nat, sT (sset (fEnd3 X m) 8 7 o (z 2 : Nat)) 1 j i = sT (fEnd3 X m) 1 j i := fun j i => by rw [sT_set, if_neg (by omega)]
  have st2 : ∀ (q s : Nat), s ≠ 2 → s ≠ 3 → s < 6 → (sT (sset (fEnd3 X m) 8 7 o (z 2 : Nat)) 8 7 q = (z s : Nat) ↔ sT X 8 7 q = (z s : Nat)) := fun q s h2 h3 h6 => by
    by_cases e : q = o
    · rw [e, v87, w3]
      constructor
      · intro w
        exact absurd (hz 2 s (by decide) (by omega) (by omega)) (fun e => h2 e.symm)
      · intro w
        exact absurd (hz 3 s (by decide) (by omega) (by omega)) (fun e => h3 e.symm)
    · rw [v8 7 q (by omega)]
  have epc : ∀ x : Int, fPc (sset (fEnd3 X m) 8 7 o (z 2 : Nat)) x = fPc X x := fPc_congr ((u 21 (by decide)).2.2 0)
  have enp : np (sset (fEnd3 X m) 8 7 o (z 2 : Nat)) = np X := by
    show (sE _ 21 0).length = (sE X 21 0).length
    rw [(u 21 (by decide)).2.2]
  have u6 := u 6 (by decide)
  have u7 := u 7 (by decide)
  have u26 := u 26 (by decide)
  have u27 := u 27 (by decide)
  have eOL : ∀ q : Nat, fOL (sset (fEnd3 X m) 8 7 o (z 2 : Nat)) q = fOL X q := fun q => congrArg Int.toNat (v8 5 q (by omega))
  have eDL : ∀ q : Nat, fDelL (sset (fEnd3 X m) 8 7 o (z 2 : Nat)) q = fDelL X q := fun q => congrArg Int.toNat (v8 6 q (by omega))
  have eTl : ∀ q : Nat, fTl (sset (fEnd3 X m) 8 7 o (z 2 : Nat)) q = fTl X q := fun q => fTl_congr (eOL q) (u26.2.2 _) (fun t _ => ⟨u7.2.1 0 _, u7.2.1 1 _⟩)
  have eDv : ∀ q : Nat, fDv (sset (fEnd3 X m) 8 7 o (z 2 : Nat)) q = fDv X q := fun q => by
    unfold fDv
    rw [eDL, u27.2.2]
    exact List.map_congr_left (fun t _ => by rw [u7.2.1, u7.2.1])
  have ePr : ∀ q : Nat, fPr z (sset (fEnd3 X m) 8 7 o (z 2 : Nat)) q = fPr z X q := fun q => decide_eq_decide.mpr (st2 q 1 (by decide) (by decide) (by decide))
  have eUw : ∀ q : Nat, fUw z (sset (fEnd3 X m) 8 7 o (z 2 : Nat)) q = fUw z X q := fun q => by
    unfold fUw fStg
    by_cases e : q = o
    · rw [e, v87, w3, decide_eq_true rfl, decide_eq_true (rfl : ((z 3 : Nat) : Int) = (z 3 : Nat))]
      cases decide (((z 3 : Nat) : Int) = (z 2 : Nat)) <;> rfl
    · rw [v8 7 q (by omega)]
  have ech : fch (sset (fEnd3 X m) 8 7 o (z 2 : Nat)) = fch X := funext (fun i => fch_congr (u6.2.1 3 i) (u26.2.2 _) (fun t _ => u7.2.1 0 _))
  have efh : fh (sset (fEnd3 X m) 8 7 o (z 2 : Nat)) = fh X := funext (fun i => by unfold fh; rw [u6.2.1])
  refine ⟨?_, i2.cg (u 2 (by decide)) (u 3 (by decide)) (u 4 (by decide)) (u 5 (by decide)) (u 21 (by decide)) (u 24 (by decide)) (u 25 (by decide)) (by rw [n1]; exact Nat.le_refl _), ?_, i4.cg u6 u7 (u 21 (by decide)) u26, i5.cg u6.1 u7 u26 u27, ?_, ?_, ?_, ?_, ?_, ?_, ?_, ?_, i14.cg (u 9 (by decide)) (u 28 (by decide)) (u 48 (by decide))⟩
  · unfold fFix at i1 ⊢
    have f0 := u 0 (by decide)
    rw [f0.1, f0.2.1, f0.2.1, f0.2.1, f0.2.1, f0.2.1, (u 20 (by decide)).2.2, (u 21 (by decide)).2.2, (u 22 (by decide)).2.2, (u 23 (by decide)).2.2, n1, u6.1, n8]
    exact i1
  · obtain ⟨a1, a2, a3⟩ := i3
    refine ⟨by rw [(u 45 (by decide)).1, n1]; exact a1, by rw [(u 0 (by decide)).2.1]; exact a2, fun q hq => ?_⟩
    rw [n1] at hq
    obtain ⟨b1, b2, b3, b4, b5, b6, b7, b8⟩ := a3 q hq
    simp only [t1, (u 0 (by decide)).2.1]
    by_cases e : q = m
    · subst e
      have h8 := w4.2.2
      have hb8 := b8.2
      rw [if_neg (show ¬ sT X 1 7 q < 0 by omega)] at hb8
      have m7 : sT (fEnd3 X q) 1 7 q = -1 := by rw [fE3_m, if_pos rfl]
      have m11 : sT (fEnd3 X q) 1 11 q = sT X 1 11 q + (sT X 0 6 0 - sT X 1 9 q) := by rw [fE3_m, if_neg (by decide), if_pos rfl]
      have mo : ∀ j : Nat, j ≠ 6 ∧ j ≠ 7 ∧ j ≠ 8 ∧ j ≠ 10 ∧ j ≠ 11 → sT (fEnd3 X q) 1 j q = sT X 1 j q := fun j hj => by
        rw [fE3_m, if_neg (by omega), if_neg (by omega), if_neg (by omega), if_neg (by omega), if_neg (by omega)]
      have m6 : sT (fEnd3 X q) 1 6 q = if sT X 1 2 q ≤ sT X 1 6 q + sT X 8 8 o then 0 else sT X 1 6 q + sT X 8 8 o := by
        rw [← ho, fE3_m, if_neg (by decide), if_neg (by decide), if_pos rfl]
      have m8 : sT (fEnd3 X q) 1 8 q = if sT X 1 2 q ≤ sT X 1 6 q + sT X 8 8 o then 1 else sT X 1 8 q := by
        rw [← ho, fE3_m, if_neg (by decide), if_neg (by decide), if_neg (by decide), if_pos rfl]
      have m10 : sT (fEnd3 X q) 1 10 q = if sT X 1 2 q ≤ sT X 1 6 q + sT X 8 8 o then sT X 0 6 0 + sT X 1 3 q else sT X 1 10 q := by
        rw [← ho, fE3_m, if_neg (by decide), if_neg (by decide), if_neg (by decide), if_neg (by decide), if_pos rfl]
      rw [m7, m11, m6, m8, m10, mo 4 (by decide), mo 0 (by decide), mo 1 (by decide), mo 2 (by decide), mo 3 (by decide), mo 5 (by decide), mo 9 (by decide), if_pos (show (-1 : Int) < 0 by decide)]
      by_cases hbr : sT X 1 2 q ≤ sT X 1 6 q + sT X 8 8 o
      · rw [if_pos hbr, if_pos hbr, if_pos hbr]
        refine ⟨b1, Or.inr rfl, b3, b4, ⟨by omega, by omega⟩, ⟨by omega, by omega⟩, b7, ⟨by omega, by omega⟩⟩
      · rw [if_neg hbr, if_neg hbr, if_neg hbr]
        refine ⟨b1, b2, b3, b4, ⟨by omega, by omega⟩, b6, b7, ⟨by omega, by omega⟩⟩
    · simp only [fE3_1 e]
      exact ⟨b1, b2, b3, b4, b5, b6, b7, b8⟩
  · intro q hq'
    rw [n8] at hq'
    obtain ⟨a0, a1, a2, a3, a4, a5, a6, a7, a8, a9, a10, a11, a12, a13, a14, a15, a16⟩ := i6 q hq'
    simp only [epc, enp, u26.1, u27.1, u6.1, u6.2.1]
    rw [v8 0 q (by omega), v8 1 q (by omega), v8 2 q (by omega), v8 3 q (by omega), v8 4 q (by omega), v8 5 q (by omega), v8 6 q (by omega), v8 8 q (by omega), v8 10 q (by omega), v8 11 q (by omega), v8 12 q (by omega), v8 13 q (by omega)]
    by_cases e : q = o
    · subst e
      have h9 := w4.2.1
      rw [v87, v89]
      refine ⟨a0, a1, a2, a3, a4, a5, a6, ⟨2, by decide, rfl⟩, a8, ⟨by omega, by omega⟩, a10, a11, a12, fun w => ?_, fun w => ?_, fun _ _ => ?_, a16⟩
      · have := w4.1.2
        omega
      · rcases w with w | w
        · exact absurd (hz 2 0 (by decide) (by decide) (by omega)) (by decide)
        · exact absurd (hz 2 1 (by decide) (by decide) (by omega)) (by decide)
      · exact a15 (by rw [w3]; intro w; exact absurd (hz 3 4 (by decide) (by decide) (by omega)) (by decide)) (by rw [w3]; intro w; exact absurd (hz 3 5 (by decide) (by decide) (by omega)) (by decide))
    · rw [v8 7 q (by omega), v8 9 q (by omega)]
      exact ⟨a0, a1, a2, a3, a4, a5, a6, a7, a8, a9, a10, a11, a12, a13, a14, a15, a16⟩
  · obtain ⟨a1, a2, a3, a4⟩ := i7
    have e5 : ∀ q : Nat, sT (sset (fEnd3 X m) 8 7 o (z 2 : Nat)) 8 5 q = sT X 8 5 q := fun q => v8 5 q (by omega)
    have e6 : ∀ q : Nat, sT (sset (fEnd3 X m) 8 7 o (z 2 : Nat)) 8 6 q = sT X 8 6 q := fun q => v8 6 q (by omega)
    simp only [iSp, n8, e5, e6, u6.1, u6.2.1]
    refine ⟨a1, a2, fun l y hl hy' h => ?_, a4⟩
    rcases a3 l y hl hy' h with h2 | h2
    · exact Or.inl ((st2 y 4 (by decide) (by decide) (by decide)).mpr h2)
    · exact Or.inr ((st2 y 5 (by decide) (by decide) (by decide)).mpr h2)
  · have hqk : ∀ q : Nat, q ≠ o → fQok X q → fQok (sset (fEnd3 X m) 8 7 o (z 2 : Nat)) q := fun q hq h => by
      unfold fQok fOpL at h ⊢
      rw [v8 1 q (by omega), v8 9 q (by omega), v8 8 q (by omega), (u 2 (by decide)).2.1, (u 25 (by decide)).2.2]
      exact h
    obtain ⟨a1, a2, a3⟩ := i8
    refine ⟨fun q hq x hx => ?_, fun q hq => ?_, fun q r hq hr h1 h2 => ?_⟩
    · rw [n1] at hq
      rw [(u 45 (by decide)).2.2] at hx
      obtain ⟨d1, d2, d3, d4⟩ := a1 q hq x hx
      have hne : x.toNat ≠ o := fun w => by
        rw [w, w3] at d3
        exact absurd (hz 3 2 (by decide) (by decide) (by omega)) (by decide)
      rw [v8 7 _ (by omega), n8]
      exact ⟨d1, d2, d3, hqk _ hne d4⟩
    · rw [n1] at hq
      rw [t1, t1]
      by_cases e : q = m
      · rw [e, fE3_m, if_pos rfl]
        exact ⟨by omega, fun w => absurd w (by decide)⟩
      · rw [fE3_1 e, fE3_1 e]
        obtain ⟨d1, d2⟩ := a2 q hq
        refine ⟨d1, fun h => ?_⟩
        obtain ⟨e1, e2, e3, e4⟩ := d2 h
        have hne : (sT X 1 7 q).toNat ≠ o := fun w => e (a3 q m hq hm h (by omega))
        rw [v8 7 _ (by omega), n8]
        exact ⟨e1, e2, e3, hqk _ hne e4⟩
    · rw [n1] at hq hr
      rw [t1] at h1
      rw [t1, t1] at h2
      by_cases e : q = m
      · rw [e, fE3_m, if_pos rfl] at h1
        exact absurd h1 (by decide)
      · rw [fE3_1 e] at h1 h2
        by_cases e2 : r = m
        · rw [e2, fE3_m, if_pos rfl] at h2
          omega
        · rw [fE3_1 e2] at h2
          exact a3 q r hq hr h1 h2
  · intro l hl
    rw [u6.1] at hl
    simp only [n8, ePr, eTl, eDv, u6.2.1]
    exact i9 l hl
  · obtain ⟨a1, a2, a3, a4, a5, a6⟩ := i10
    have co : fCoO z (sset (fEnd3 X m) 8 7 o (z 2 : Nat)) = fCoO z X := funext (fun q => by
      unfold fCoO
      rw [eUw, eDL, u27.2.2, v8 10 q (by omega)]
      simp only [u7.2.1])
    refine ⟨fun l hl => ?_, fun q hq' => ?_, fun t ht => ?_, ?_, ?_, ?_⟩
    · rw [u6.1] at hl
      rw [u6.2.1]; exact a1 l hl
    · rw [n8] at hq'
      rw [v8 10 q (by omega)]; exact a2 q hq'
    · rw [u7.1] at ht
      rw [u7.2.1]; exact a3 t ht
    · rw [(u 0 (by decide)).2.1]; exact a4
    · unfold fSumO fSumL at a5 ⊢
      rw [n8, co, (u 0 (by decide)).2.1, (u 0 (by decide)).2.1, (u 0 (by decide)).2.1, u6.1]
      simp only [u6.2.1]
      exact a5
    · rw [(u 0 (by decide)).2.1, (u 0 (by decide)).2.1]; exact a6
  · intro q hq' hb t ht
    rw [n8] at hq'
    rw [ePr] at hb
    rw [eOL, u26.2.2] at ht
    have e7 : fLotOf (sset (fEnd3 X m) 8 7 o (z 2 : Nat)) t = fLotOf X t := by unfold fLotOf; rw [u7.2.1]
    rw [e7, efh, ech]
    exact i11 q hq' hb t ht
  · intro q hq'
    rw [n8] at hq'
    obtain ⟨a1, a2, a3⟩ := i12 q hq'
    rw [eOL, eDL, u26.2.2, u27.2.2]
    exact ⟨fun w => a1 ((st2 q 0 (by decide) (by decide) (by decide)).mp w), fun w => a2 (fun w2 => w ((st2 q 5 (by decide) (by decide) (by decide)).mpr w2)), a3⟩
  · obtain ⟨a1, a2, a3, a4, a5⟩ := i13
    have f0 := u 0 (by decide)
    refine ⟨by rw [f0.2.1]; exact a1, by rw [f0.2.1]; exact a2, by rw [f0.2.1, n8]; exact a3, ?_, fun x hx => by rw [(u 28 (by decide)).2.2, f0.2.1]; exact a5 x hx⟩
    rw [u6.1, n8, f0.2.1]
    have e : isum (sn X 8) (fun q => if sT (sset (fEnd3 X m) 8 7 o (z 2 : Nat)) 8 7 q = (z 4 : Nat) ∨ sT (sset (fEnd3 X m) 8 7 o (z 2 : Nat)) 8 7 q = (z 5 : Nat) then (1 : Int) else 0) = isum (sn X 8) (fun q => if sT X 8 7 q = (z 4 : Nat) ∨ sT X 8 7 q = (z 5 : Nat) then (1 : Int) else 0) := isum_cg (fun q hq => by
      have h4 := st2 q 4 (by decide) (by decide) (by decide)
      have h5 := st2 q 5 (by decide) (by decide) (by decide)
      simp only [h4, h5])
    rw [e]
    exact a4
end ZCA2
