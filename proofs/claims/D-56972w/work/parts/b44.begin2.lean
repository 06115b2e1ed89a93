/-! THE SIMULATION: a machine begins an order, both sides -/
set_option maxRecDepth 100000
section ZBV5
variable {z : Nat → Nat} {k m j : Nat} {X Y : hS}
theorem pairBeg (hz : zInj z) (hR : rR z X Y) (hI : iAll z k X) (hS : mShape Y) (hB : mBox Y) (hm : m < sn X 1) (hj : (j : Int) ∈ sE X 45 m) (hf : fFree X m = true) (hc : sT X 0 7 0 + sT X 0 8 0 + 41000 ≤ k * 1000000000) :
    rR z (fBegin z X m j) (mBegin Y m j) ∧ iAll z k (fBegin z X m j) ∧ mShape (mBegin Y m j) ∧ mBox (mBegin Y m j) ∧ sT (fBegin z X m j) 0 7 0 + sT (fBegin z X m j) 0 8 0 ≤ sT X 0 7 0 + sT X 0 8 0 + 41000 := by
  have hjq := ((hR.Q m hm).2 (j : Int)).mp hj
  obtain ⟨-, hj8', hst, hqk⟩ := hI.qw.1 m hm _ hj
  rw [Int.toNat_natCast] at hjq hst hqk
  have hj8 : j < sn X 8 := by omega
  obtain ⟨b1, b2, b3, b4, b5, b6⟩ := begEq hR hI hS hm hj8 hqk
  have hfr : sT X 1 7 m < 0 ∧ sT X 1 8 m = 0 := by
    unfold fFree at hf
    rw [Bool.and_eq_true, decide_eq_true_iff, beq_iff_eq] at hf
    exact hf
  have u := fun (c : Nat) (h : c ≠ 0 ∧ c ≠ 1 ∧ c ≠ 8 ∧ c ≠ 45) => fB_ceq (z := z) (X := X) (m := m) (j := j) h
  have g := fun (c : Nat) (h : c ≠ 12 ∧ c ≠ 15) => mB_ceq (Y := Y) (m := m) (j := j) h
  have hqi : fQi X m = m := by unfold fQi; rw [(hI.mc.2.2 m hm).1, Int.toNat_natCast]
  have q45 : ∀ i : Nat, sE (fBegin z X m j) 45 i = if i = m then (sE X 45 m).erase (j : Int) else sE X 45 i := fun i => by
    rw [fBegin_sE, hqi]
    by_cases e : i = m
    · rw [if_pos ⟨rfl, e⟩, if_pos e]
    · rw [if_neg (fun w => e w.2), if_neg e]
  have v8 : ∀ q i : Nat, ¬ ((q = 7 ∨ q = 10) ∧ i = j) → sT (fBegin z X m j) 8 q i = sT X 8 q i := fun q i h => fBegin_sT (by omega) (by omega) (by omega)
  have f0 : ∀ q : Nat, q ≠ 8 → sT (fBegin z X m j) 0 q 0 = sT X 0 q 0 := fun q h => fBegin_sT (by omega) (by omega) (by omega)
  have hnow : sT Y 11 8 0 = sT X 0 6 0 := hR.G.2
  have z23 : z 2 ≠ z 3 := fun e => absurd (hz 2 3 (by decide) (by decide) e) (by decide)
  have st2 : ∀ (q s : Nat), s ≠ 2 → s ≠ 3 → s < 6 → (sT (fBegin z X m j) 8 7 q = (z s : Nat) ↔ sT X 8 7 q = (z s : Nat)) := fun q s h2 h3 h6 => by
    rw [fB_87]
    by_cases e : q = j
    · rw [if_pos e, e, hst]
      constructor
      · intro w
        exact absurd (hz 3 s (by decide) (by omega) (by omega)) (fun e => h3 e.symm)
      · intro w
        exact absurd (hz 2 s (by decide) (by omega) (by omega)) (fun e => h2 e.symm)
    · rw [if_neg e]
  have eUw : ∀ q : Nat, fUw z (fBegin z X m j) q = fUw z X q := fun q => by
    unfold fUw fStg
    rw [fB_87]
    by_cases e : q = j
    · rw [if_pos e, e, hst, decide_eq_false (by omega), decide_eq_true rfl, decide_eq_true rfl]
      rfl
    · rw [if_neg e]
  have ePr : ∀ q : Nat, fPr z (fBegin z X m j) q = fPr z X q := fun q => decide_eq_decide.mpr (st2 q 1 (by decide) (by decide) (by decide))
  have eOL : ∀ q : Nat, fOL (fBegin z X m j) q = fOL X q := fun q => congrArg Int.toNat (v8 5 q (by omega))
  have eDL : ∀ q : Nat, fDelL (fBegin z X m j) q = fDelL X q := fun q => congrArg Int.toNat (v8 6 q (by omega))
  have eTl : ∀ q : Nat, fTl (fBegin z X m j) q = fTl X q := fun q => fTl_congr (eOL q) ((u 26 (by decide)).2.2 _) (fun t _ => ⟨(u 7 (by decide)).2.1 0 _, (u 7 (by decide)).2.1 1 _⟩)
  have eDv : ∀ q : Nat, fDv (fBegin z X m j) q = fDv X q := fun q => by
    unfold fDv
    rw [eDL, (u 27 (by decide)).2.2]
    exact List.map_congr_left (fun t _ => by rw [(u 7 (by decide)).2.1, (u 7 (by decide)).2.1])
  have m15 : ∀ q i : Nat, ¬ ((q = 5 ∨ q = 11) ∧ i = j) → sT (mBegin Y m j) 15 q i = sT Y 15 q i := fun q i h => by rw [mB_15, if_neg (by omega), if_neg (by omega)]
  obtain ⟨s1, c1, c2, c3, c4, c5⟩ := (hR.O.2 j hj8).2.1.1
  have es : s1 = 2 := hz s1 2 (by omega) (by decide) (by omega)
  subst es
  refine ⟨⟨?_, ?_, ?_, ?_, ?_, ?_, ?_⟩, ?_, ?_, hB, ?_⟩
  · have hg := hR.G
    unfold rG at hg ⊢
    rw [(g 11 (by decide)).2.1, (g 11 (by decide)).2.1, f0 5 (by decide), f0 6 (by decide)]
    exact hg
  · refine ⟨hR.M.1, fun i hi => ?_⟩
    have hi : i < sn X 1 := hi
    have h := hR.M.2 i hi
    by_cases e : i = m
    · subst e
      have hs : fState (fBegin z X i j) i = 111 := by
        unfold fState
        rw [fB_1, fB_1, if_pos rfl, if_pos rfl]
        simp [hfr.2]
      rw [hs]
      simp only [fB_1, mB_12]
      simp
      rw [hnow, b2, b1]
      exact ⟨h.1, rfl, h.2.2.1, rfl, rfl, h.2.2.2.2.2.2.1⟩
    · have hs : fState (fBegin z X m j) i = fState X i := by
        unfold fState
        rw [fB_1, fB_1, if_neg e, if_neg e]
      rw [hs]
      simp only [fB_1, mB_12, if_neg e]
      exact h
  · exact rP_congr (fun c k i hc => (u c (by omega)).2.1 k i) (fun c i hc => (u c (by omega)).2.2 i) (fun k i => (g 13 (by decide)).2.1 k i) (fun c i hc => rfl) rfl hR.P
  · exact hR.L.gr (pgr.same ((u 21 (by decide)).2.2 0)) (u 6 (by decide)) (u 7 (by decide)) (u 26 (by decide)) (g 14 (by decide)) (g 41 (by decide))
  · refine ⟨hR.O.1, fun q hq => ?_⟩
    obtain ⟨g1, g2, g3, g4⟩ := hR.O.2 q hq
    refine ⟨rOa_congr (fun i hi => v8 i q (by omega)) ((u 21 (by decide)).2.2 0) (fun i hi => m15 i q (by omega)) g1, ?_, ⟨?_, g3.2⟩, ?_⟩
    · by_cases e : q = j
      · subst e
        refine ⟨⟨3, by decide, by rw [fB_87, if_pos rfl], by rw [mB_15, if_pos ⟨rfl, rfl⟩]; rfl, ?_, ?_⟩, ?_, ?_, ?_, ?_⟩
        · rw [m15 13 q (by omega), c4, if_neg (by omega), if_neg (by omega)]
        · rw [m15 14 q (by omega), c5, if_neg (by decide), if_neg (by decide)]
        · rw [m15 8 q (by omega), v8 8 q (by omega)]; exact g2.2.1
        · rw [m15 9 q (by omega), v8 9 q (by omega)]; exact g2.2.2.1
        · rw [mB_15, if_neg (by omega), if_pos ⟨rfl, rfl⟩, fB_810, if_pos rfl, b3, g2.2.2.2.1]
        · rw [m15 12 q (by omega), v8 13 q (by omega)]; exact g2.2.2.2.2
      · exact rOb_congr (fun i hi => v8 i q (by omega)) (fun i hi => m15 i q (by omega)) g2
    · rw [eTl]; exact g3.1
    · exact rD_congr (eDL q) ((u 27 (by decide)).2.2 _) (fun t _ => ⟨(u 7 (by decide)).2.1 0 _, (u 7 (by decide)).2.1 2 _⟩) rfl (m15 15 q (by omega)) g4
  · intro i hi
    have hi : i < sn X 1 := hi
    obtain ⟨a1, a2⟩ := hR.Q i hi
    rw [q45, fBegin_sn]
    by_cases e : i = m
    · subst e
      rw [if_pos rfl]
      refine ⟨a1.erase _, fun x => ?_⟩
      rw [a1.mem_erase_iff, a2 x, m15 10 _ (by omega), mB_15]
      by_cases ex : x.toNat = j
      · rw [ex, if_pos ⟨rfl, rfl⟩]
        constructor
        · rintro ⟨d1, d2, d3, -⟩; omega
        · rintro ⟨-, -, d3, -⟩; exact absurd d3 (by decide)
      · rw [if_neg (fun w => ex w.1), if_neg (fun w => ex w.1)]
        constructor
        · rintro ⟨-, d⟩; exact d
        · intro d; exact ⟨fun w => ex (by rw [w]; rfl), d⟩
    · rw [if_neg e]
      refine ⟨a1, fun x => (a2 x).trans ?_⟩
      rw [m15 10 _ (by omega), mB_15]
      by_cases ex : x.toNat = j
      · rw [ex, if_pos ⟨rfl, rfl⟩]
        constructor
        · rintro ⟨d1, d2, d3, d4⟩; omega
        · rintro ⟨-, -, d3, -⟩; exact absurd d3 (by decide)
      · rw [if_neg (fun w => ex w.1), if_neg (fun w => ex w.1)]
  · exact rS_congr (fun x _ => ⟨(u 28 (by decide)).2.2 x, (u 9 (by decide)).2.1 0 x⟩) (fun c i hc => rfl) rfl hR.S
  · obtain ⟨i1, i2, i3, i4, i5, i6, i7, i8, i9, i10, i11, i12, i13, i14⟩ := hI
    refine ⟨?_, i2.cg (u 2 (by decide)) (u 3 (by decide)) (u 4 (by decide)) (u 5 (by decide)) (u 21 (by decide)) (u 24 (by decide)) (u 25 (by decide)) (Nat.le_refl _), ?_, i4.cg (u 6 (by decide)) (u 7 (by decide)) (u 21 (by decide)) (u 26 (by decide)), i5.cg rfl (u 7 (by decide)) (u 26 (by decide)) (u 27 (by decide)), ?_, ?_, ?_, ?_, ?_, ?_, ?_, ?_, i14.cg (u 9 (by decide)) (u 28 (by decide)) (u 48 (by decide))⟩
    · unfold fFix at i1 ⊢
      rw [f0 0 (by decide), f0 1 (by decide), f0 2 (by decide), f0 3 (by decide), f0 4 (by decide), (u 20 (by decide)).2.2, (u 21 (by decide)).2.2, (u 22 (by decide)).2.2, (u 23 (by decide)).2.2]
      exact i1
    · obtain ⟨a1, a2, a3⟩ := i3
      refine ⟨a1, by rw [f0 6 (by decide)]; exact a2, fun i hi => ?_⟩
      have hi : i < sn X 1 := hi
      have h := a3 i hi
      rw [f0 6 (by decide)]
      by_cases e : i = m
      · subst e
        simp only [fB_1]
        simp
        obtain ⟨d1, d2, d3, d4, d5, d6, d7, d8⟩ := h
        rw [if_pos hfr.1] at d8
        refine ⟨d1, d2, d3, by omega, d5, by omega, by omega, d8.1, ?_⟩
        exact d8.2
      · simp only [fB_1, if_neg e]
        exact h
    · intro q hq
      obtain ⟨a0, a1, a2, a3, a4, a5, a6, a7, a8, a9, a10, a11, a12, a13, a14, a15, a16⟩ := i6 q hq
      have epc : ∀ x : Int, fPc (fBegin z X m j) x = fPc X x := fPc_congr ((u 21 (by decide)).2.2 0)
      have enp : np (fBegin z X m j) = np X := by
        show (sE _ 21 0).length = (sE X 21 0).length
        rw [(u 21 (by decide)).2.2]
      simp only [epc, enp, fBegin_sn, (u 6 (by decide)).2.1]
      rw [v8 0 q (by omega), v8 1 q (by omega), v8 2 q (by omega), v8 3 q (by omega), v8 4 q (by omega), v8 5 q (by omega), v8 6 q (by omega), v8 8 q (by omega), v8 9 q (by omega), v8 11 q (by omega), v8 12 q (by omega), v8 13 q (by omega)]
      by_cases e : q = j
      · subst e
        rw [fB_87, if_pos rfl]
        refine ⟨a0, a1, a2, a3, a4, a5, a6, ⟨3, by decide, rfl⟩, a8, a9, a10, a11, a12, fun w => ?_, fun w => ?_, fun _ _ => a15 (by rw [hst]; intro w; exact absurd (hz 2 4 (by decide) (by decide) (by omega)) (by decide)) (by rw [hst]; intro w; exact absurd (hz 2 5 (by decide) (by decide) (by omega)) (by decide)), a16⟩
        · have := hqk.1.2; omega
        · rcases w with w | w
          · exact absurd (hz 3 0 (by decide) (by decide) (by omega)) (by decide)
          · exact absurd (hz 3 1 (by decide) (by decide) (by omega)) (by decide)
      · rw [fB_87, if_neg e, fB_810, if_neg e]
        exact ⟨a0, a1, a2, a3, a4, a5, a6, a7, a8, a9, a10, a11, a12, a13, a14, a15, a16⟩
    · obtain ⟨a1, a2, a3, a4⟩ := i7
      simp only [iSp, fBegin_sn, v8 5 _ (by omega), v8 6 _ (by omega), (u 6 (by decide)).2.1, st2 _ 4 (by decide) (by decide) (by decide), st2 _ 5 (by decide) (by decide) (by decide)]
      exact ⟨a1, a2, a3, a4⟩
    · have hq : ∀ q : Nat, fQok (fBegin z X m j) q ↔ fQok X q := fun q => by
        unfold fQok fOpL
        rw [v8 1 q (by omega), v8 9 q (by omega), v8 8 q (by omega), (u 2 (by decide)).2.1, (u 25 (by decide)).2.2]
      obtain ⟨a1, a2, a3⟩ := i8
      refine ⟨fun i hi x hx => ?_, fun i hi => ?_, fun i y hi hy => ?_⟩
      · have hi : i < sn X 1 := hi
        have hnd := (hR.Q i hi).1
        have hx2 : x ∈ sE X 45 i ∧ x ≠ (j : Int) := by
          rw [q45] at hx
          by_cases e : i = m
          · rw [if_pos e] at hx
            rw [e] at hnd ⊢
            have := hnd.mem_erase_iff.mp hx
            exact ⟨this.2, this.1⟩
          · rw [if_neg e] at hx
            refine ⟨hx, fun w => ?_⟩
            rw [w] at hx
            have := ((hR.Q i hi).2 (j : Int)).mp hx
            rw [Int.toNat_natCast] at this
            omega
        obtain ⟨d1, d2, d3, d4⟩ := a1 i hi x hx2.1
        rw [hq, fB_87, if_neg (by omega)]
        exact ⟨d1, d2, d3, d4⟩
      · have hi : i < sn X 1 := hi
        obtain ⟨d1, d2⟩ := a2 i hi
        rw [hq]
        by_cases e : i = m
        · subst e
          have e7 : sT (fBegin z X i j) 1 7 i = (j : Int) := by rw [fB_1, if_pos rfl]; simp
          have e8 : sT (fBegin z X i j) 1 8 i = 0 := by rw [fB_1, if_pos rfl]; simp [hfr.2]
          rw [e7, e8, Int.toNat_natCast, fB_87, if_pos rfl]
          exact ⟨by omega, fun _ => ⟨rfl, by show ((j : Nat) : Int) < (sn X 8 : Nat); omega, rfl, hqk⟩⟩
        · simp only [fB_1, if_neg e]
          refine ⟨d1, fun h => ?_⟩
          obtain ⟨e1, e2, e3, e4⟩ := d2 h
          rw [fB_87, if_neg (fun w => by rw [w, hst] at e3; omega)]
          exact ⟨e1, e2, e3, e4⟩
      · have hi : i < sn X 1 := hi
        have hy : y < sn X 1 := hy
        have no : ∀ w : Nat, w < sn X 1 → sT X 1 7 w ≠ (j : Int) := fun w hw e => by
          have := ((a2 w hw).2 (by omega)).2.2.1
          rw [e, Int.toNat_natCast, hst] at this
          omega
        simp only [fB_1]
        by_cases e : i = m
        · by_cases e2 : y = m
          · intro _ _; omega
          · simp [e, e2]
            intro w
            exact absurd w.symm (no y hy)
        · by_cases e2 : y = m
          · simp [e, e2]
            intro _ w
            exact absurd w (no i hi)
          · simp only [if_neg e, if_neg e2]
            exact a3 i y hi hy
    · unfold iRes iRb at i9 ⊢
      simp only [fBegin_sn, (u 6 (by decide)).2.1, ePr, eTl, eDv]
      exact i9
    · obtain ⟨a1, a2, a3, a4, a5, a6⟩ := i10
      have co : ∀ q : Nat, fCoO z (fBegin z X m j) q = fCoO z X q + (if q = j then fBcost X m j else 0) := fun q => by
        unfold fCoO
        rw [eUw, eDL, (u 27 (by decide)).2.2, fB_810]
        simp only [(u 7 (by decide)).2.1]
        by_cases e : q = j
        · subst e
          have : fUw z X q = true := by
            unfold fUw fStg
            rw [decide_eq_true hst]; rfl
          rw [if_pos this, if_pos rfl, if_pos this, if_pos rfl]
          omega
        · rw [if_neg e, if_neg e]; omega
      have cs : fSumO z (fBegin z X m j) (sn X 8) = fSumO z X (sn X 8) + fBcost X m j := by
        have e1 : ((List.range (sn X 8)).map (fCoO z (fBegin z X m j))).sum = ((List.range (sn X 8)).map (fCoO z X)).sum + fBcost X m j :=
          isum_up (f := fCoO z X) (g := fCoO z (fBegin z X m j)) (j := j) (d := fBcost X m j) (by rw [co, if_pos rfl]) (fun q hq => by rw [co, if_neg hq]; omega) hj8
        unfold fSumO fSumL
        rw [e1, fBegin_sn, f0 9 (by decide)]
        simp only [(u 6 (by decide)).2.1]
        omega
      refine ⟨fun l hl => ?_, fun q hq => ?_, fun t ht => ?_, ?_, ?_, ?_⟩
      · rw [(u 6 (by decide)).2.1]; exact a1 l hl
      · rw [fB_810]
        split
        · have := a2 j hj8; omega
        · exact a2 q hq
      · rw [(u 7 (by decide)).2.1]; exact a3 t ht
      · rw [f0 9 (by decide)]; exact a4
      · rw [fBegin_sn, cs, f0 7 (by decide), fB_08]; omega
      · rw [f0 7 (by decide), fB_08]; omega
    · intro q hq hb t ht
      rw [ePr] at hb
      rw [eOL, (u 26 (by decide)).2.2] at ht
      have e7 : fLotOf (fBegin z X m j) t = fLotOf X t := by unfold fLotOf; rw [(u 7 (by decide)).2.1]
      rw [e7, h_cg (u 6 (by decide)), ch_cg (u 6 (by decide)) (u 7 (by decide)) (u 26 (by decide))]
      exact i11 q hq hb t ht
    · intro q hq
      obtain ⟨a1, a2, a3⟩ := i12 q hq
      rw [eOL, eDL, (u 26 (by decide)).2.2, (u 27 (by decide)).2.2]
      exact ⟨fun w => a1 ((st2 q 0 (by decide) (by decide) (by decide)).mp w), fun w => a2 (fun w2 => w ((st2 q 5 (by decide) (by decide) (by decide)).mpr w2)), a3⟩
    · obtain ⟨a1, a2, a3, a4, a5⟩ := i13
      simp only [iCn, fBegin_sn, f0 5 (by decide), (u 28 (by decide)).2.2, st2 _ 4 (by decide) (by decide) (by decide), st2 _ 5 (by decide) (by decide) (by decide)]
      exact ⟨a1, a2, a3, a4, a5⟩
  · obtain ⟨y1, y2, y3, y4, y5⟩ := hS
    refine ⟨y1, y2, y3, fun q hq => ?_, y5⟩
    obtain ⟨w1, w2, w3, w4, w5, w6⟩ := y4 q hq
    rw [m15 0 q (by omega), m15 6 q (by omega), m15 7 q (by omega), m15 16 q (by omega), m15 10 q (by omega)]
    refine ⟨w1, w2, w3, w4, w5, fun h => ?_⟩
    rw [mB_15] at h
    by_cases e : q = j
    · rw [if_pos ⟨e, rfl⟩] at h
      exact absurd h (by decide)
    · rw [if_neg (fun x => e x.1), if_neg (fun x => e x.1)] at h
      exact w6 h
  · rw [f0 7 (by decide), fB_08]; omega
end ZBV5
