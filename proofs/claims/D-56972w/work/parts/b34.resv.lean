/-! THE SIMULATION: reserving, by lots and by components -/
set_option maxRecDepth 100000
theorem ceq.trans {X X' X2 : hS} {c : Nat} (h : ceq X X' c) (h2 : ceq X' X2 c) : ceq X X2 c := ⟨h2.1.trans h.1, fun k i => (h2.2.1 k i).trans (h.2.1 k i), fun i => (h2.2.2 i).trans (h.2.2 i)⟩
/-- what reserving leaves alone -/
def rsK (X0 X Y0 Y : hS) : Prop := (∀ c : Nat, c ≠ 6 ∧ c ≠ 7 ∧ c ≠ 26 → ceq X0 X c) ∧ sn X 6 = sn X0 6 ∧ (∀ c : Nat, c ≠ 14 ∧ c ≠ 19 ∧ c ≠ 38 ∧ c ≠ 39 → ceq Y0 Y c) ∧ sn Y 14 = sn Y0 14 ∧ (mfr X0 X ∧ ffr Y0 Y) ∧ (∀ c : Nat, sn X0 c ≤ sn X c) ∧ ∀ c : Nat, sn Y0 c ≤ sn Y c
def rsP (z : Nat → Nat) (k o : Nat) (X Y : hS) : Prop := rR z X Y ∧ iAll z k X ∧ mShape Y ∧ mBox Y ∧ o < sn X 8 ∧ sT X 8 7 o = (z 1 : Nat)
section ZBRS
variable {z : Nat → Nat} {k o l : Nat} {X X' X0 Y Y' Y0 : hS} {t pt n left : Int}
theorem rsK.refl : rsK X X Y Y := ⟨fun _ _ => ceq.refl, rfl, fun _ _ => ceq.refl, rfl, ⟨mfr.refl, ffr.refl⟩, fun _ => Nat.le_refl _, fun _ => Nat.le_refl _⟩
theorem rsK.trans (h : rsK X0 X Y0 Y) (h2 : rsK X X' Y Y') : rsK X0 X' Y0 Y' :=
  ⟨fun c hc => (h.1 c hc).trans (h2.1 c hc), h2.2.1.trans h.2.1, fun c hc => (h.2.2.1 c hc).trans (h2.2.2.1 c hc), h2.2.2.2.1.trans h.2.2.2.1, ⟨h.2.2.2.2.1.1.trans h2.2.2.2.2.1.1, h.2.2.2.2.1.2.trans h2.2.2.2.2.1.2⟩, fun c => Nat.le_trans (h.2.2.2.2.2.1 c) (h2.2.2.2.2.2.1 c), fun c => Nat.le_trans (h.2.2.2.2.2.2 c) (h2.2.2.2.2.2.2 c)⟩
theorem rsK.take {m : Nat} : rsK X (fTakeS X m l t) Y (mTakeS Y o l t) := by
  refine ⟨fun c hc => tk_ceq hc, fTakeS_n (by decide), fun c hc => mtk_ceq hc, mTakeS_n (by decide), ⟨?_, ?_⟩, fun c => ?_, fun c => ?_⟩
  · have e : ∀ c : Nat, mcl c → c ≠ 6 ∧ c ≠ 7 ∧ c ≠ 26 := fun c hc => ⟨by rintro rfl; exact absurd hc (by decide), by rintro rfl; exact absurd hc (by decide), by rintro rfl; exact absurd hc (by decide)⟩
    exact ⟨fun c hc => (tk_ceq (e c hc)).1, fun c j i hc _ => (tk_ceq (e c hc)).2.1 j i, fun c i hc => (tk_ceq (e c hc)).2.2 i, by rw [(tk_ceq (c := 46) (by decide)).1]; exact Nat.le_refl _, fun i _ => (tk_ceq (c := 46) (by decide)).2.2 i⟩
  · have e : ∀ c : Nat, fcl c → c ≠ 14 ∧ c ≠ 19 ∧ c ≠ 38 ∧ c ≠ 39 := fun c hc => ⟨by rintro rfl; exact absurd hc (by decide), by rintro rfl; exact absurd hc (by decide), by rintro rfl; exact absurd hc (by decide), by rintro rfl; exact absurd hc (by decide)⟩
    exact ⟨fun c hc => (mtk_ceq (e c hc)).1, fun c j i hc => (mtk_ceq (e c hc)).2.1 j i, fun c i hc => (mtk_ceq (e c hc)).2.2 i⟩
  · by_cases h : c = 7
    · subst h; rw [fTakeS_n7]; exact Nat.le_succ _
    · rw [fTakeS_n h]; exact Nat.le_refl _
  · by_cases h : c = 19
    · subst h
      unfold mTakeS
      rw [sn_ssE]
      exact intS_n19 (Y := mTakeA Y o l t)
    · rw [mTakeS_n h]; exact Nat.le_refl _
theorem imin_comm {x y : Int} : imin x y = imin y x := by
  unfold imin
  by_cases h : x < y
  · rw [if_pos h, if_neg (by omega)]
  · by_cases h2 : y < x
    · rw [if_neg h, if_pos h2]
    · rw [if_neg h, if_neg h2]; omega
theorem imin_le {x y : Int} : imin x y ≤ x ∧ imin x y ≤ y := by
  unfold imin
  split <;> omega
theorem rR.pnum (hR : rR z X Y) (hI : iAll z k X) (hl : l < sn X 6) : fPnum X l = sT Y 14 1 l := by
  obtain ⟨⟨p, g1, g2, g3⟩, -⟩ := hR.L.2 l hl
  have h := (hI.pt.1 p g1).2.2
  unfold fPnum fLp
  rw [g3, Int.toNat_natCast, g2]
  exact h
theorem resThere (P : rsP z k o X Y) (hl : l < sn X 6) : fThere X pt left l = mThere Y pt left l := by
  obtain ⟨hR, hI, -⟩ := P
  have hL := hR.L.2 l hl
  unfold fThere mThere
  rw [hR.pnum hI hl, hR.held hI 100 hl, hL.2.1, hL.2.2.1, imin_comm]
theorem resWalk (P : rsP z k o X Y) (hl : l < sn X 6) : fWalk X pt l = mWalk Y pt l := by
  obtain ⟨hR, hI, -⟩ := P
  unfold fWalk mWalk
  rw [hR.pnum hI hl, hR.nodes hI 100 hl]
/-- one lot -/
theorem resStep (hz : zInj z) (P : rsP z k o X Y) (hl : l < sn X 6) (hlen : (sE X 26 (fOL X o)).length < 400) {a b a' b' : Nat} (hab : a' ≤ 2 * a ∧ b' ≤ 2 * b) :
    rsP z k o (fResStep (fOL X o) pt (X, left, a, b) l).1 (mResStep o pt (Y, left, a', b') l).1 ∧ (fResStep (fOL X o) pt (X, left, a, b) l).2.1 = (mResStep o pt (Y, left, a', b') l).2.1 ∧ rsK X (fResStep (fOL X o) pt (X, left, a, b) l).1 Y (mResStep o pt (Y, left, a', b') l).1 ∧
      (sE (fResStep (fOL X o) pt (X, left, a, b) l).1 26 (fOL X o)).length ≤ (sE X 26 (fOL X o)).length + 1 ∧ ((mResStep o pt (Y, left, a', b') l).2.2.1 ≤ 2 * (fResStep (fOL X o) pt (X, left, a, b) l).2.2.1 ∧ (mResStep o pt (Y, left, a', b') l).2.2.2 ≤ 2 * (fResStep (fOL X o) pt (X, left, a, b) l).2.2.2) := by
  have hT := resThere (pt := pt) (left := left) P hl
  have hW := resWalk (pt := pt) P hl
  have hle : fThere X pt left l ≤ left ∨ fThere X pt left l ≤ 0 := by
    unfold fThere
    split
    · exact Or.inl imin_le.1
    · exact Or.inr (Int.le_refl _)
  by_cases h0 : left ≤ 0
  · have hn : ¬ 0 < fThere X pt left l := by omega
    have eF : fResStep (fOL X o) pt (X, left, a, b) l = (X, left, a + fWalk X pt l, b + 4 * fWalk X pt l) := by
      unfold fResStep
      exact if_neg hn
    have eM : mResStep o pt (Y, left, a', b') l = (Y, left, a', b') := by
      unfold mResStep
      exact if_pos h0
    rw [eF, eM]
    exact ⟨P, rfl, rsK.refl, Nat.le_succ _, by show a' ≤ 2 * (a + _); omega, by show b' ≤ 2 * (b + _); omega⟩
  · by_cases h1 : 0 < fThere X pt left l
    · have eF : fResStep (fOL X o) pt (X, left, a, b) l = (fTakeS X (fOL X o) l (fThere X pt left l), left - fThere X pt left l, a + fWalk X pt l + 2, b + 4 * fWalk X pt l + (2 * (sE X 26 (fOL X o)).length + 20)) := by
        unfold fResStep
        exact if_pos h1
      have eM : mResStep o pt (Y, left, a', b') l = (mTakeS Y o l (mThere Y pt left l), left - mThere Y pt left l, a' + mWalk Y pt l + 3, b' + 4 * mWalk Y pt l + (2 * (sE Y 38 o).length + 2 * (sE Y 39 o).length + 25)) := by
        unfold mResStep
        refine (if_neg h0).trans ?_
        exact if_pos (by rw [← hT]; exact h1)
      have hc : fPnum X l = pt ∧ tHeld (fh X) (fch X) 100 l = false := by
        unfold fThere at h1
        by_cases w : fPnum X l = pt ∧ tHeld (fh X) (fch X) 100 l = false
        · exact w
        · rw [if_neg w] at h1
          exact absurd h1 (by decide)
      have hav : fThere X pt left l ≤ sT X 6 4 l - sT X 6 5 l := by
        unfold fThere
        rw [if_pos hc]
        exact imin_le.2
      have hl38 : (sE Y 38 o).length = (sE X 26 (fOL X o)).length ∧ (sE Y 39 o).length = (sE X 26 (fOL X o)).length := by
        have := P.1.lst P.2.2.2.2.1
        have h2 := (P.1.O.2 o P.2.2.2.2.1).2.2.1.2
        have e := congrArg List.length this
        rw [List.length_map] at e
        exact ⟨e, by omega⟩
      rw [eF, eM, ← hT, ← hW, hl38.1, hl38.2]
      obtain ⟨q1, q2, q3, q4⟩ := pairTake hz P.1 P.2.1 P.2.2.1 P.2.2.2.1 P.2.2.2.2.1 P.2.2.2.2.2 hl h1 hav hc.2 hlen
      refine ⟨⟨q1, q2, q3, q4, ?_, ?_⟩, rfl, rsK.take, ?_, ?_, ?_⟩
      · show o < sn (fTakeS X _ l _) 8
        rw [fTakeS_n (by decide)]; exact P.2.2.2.2.1
      · show sT (fTakeS X _ l _) 8 7 o = _
        rw [fTakeS_T (by decide) (by omega)]; exact P.2.2.2.2.2
      · show (sE (fTakeS X _ l _) 26 _).length ≤ _
        rw [fTakeS_26, List.length_append]; exact Nat.le_refl _
      · show a' + fWalk X pt l + 3 ≤ 2 * (a + fWalk X pt l + 2); omega
      · show b' + 4 * fWalk X pt l + (2 * (sE X 26 (fOL X o)).length + 2 * (sE X 26 (fOL X o)).length + 25) ≤ 2 * (b + 4 * fWalk X pt l + (2 * (sE X 26 (fOL X o)).length + 20)); omega
    · have eF : fResStep (fOL X o) pt (X, left, a, b) l = (X, left, a + fWalk X pt l, b + 4 * fWalk X pt l) := by
        unfold fResStep
        exact if_neg h1
      have eM : mResStep o pt (Y, left, a', b') l = (Y, left, a' + mWalk Y pt l, b' + 4 * mWalk Y pt l) := by
        unfold mResStep
        refine (if_neg h0).trans ?_
        exact if_neg (by rw [← hT]; exact h1)
      rw [eF, eM, ← hW]
      exact ⟨P, rfl, rsK.refl, Nat.le_succ _, by show a' + _ ≤ 2 * (a + _); omega, by show b' + _ ≤ 2 * (b + _); omega⟩
theorem rsK.ol (h : rsK X0 X Y0 Y) : fOL X o = fOL X0 o := congrArg Int.toNat ((h.1 8 (by decide)).2.1 5 o)
/-- all lots -/
theorem pairRes (hz : zInj z) (P : rsP z k o X Y) (hlen : (sE X 26 (fOL X o)).length + sn X 6 ≤ 400) : ∀ j : Nat, j ≤ sn X 6 →
    rsP z k o (fResN X (fOL X o) pt n j).1 (mResN Y o pt n j).1 ∧ (fResN X (fOL X o) pt n j).2.1 = (mResN Y o pt n j).2.1 ∧ rsK X (fResN X (fOL X o) pt n j).1 Y (mResN Y o pt n j).1 ∧ (sE (fResN X (fOL X o) pt n j).1 26 (fOL X o)).length ≤ (sE X 26 (fOL X o)).length + j ∧
      ((mResN Y o pt n j).2.2.1 ≤ 2 * (fResN X (fOL X o) pt n j).2.2.1 ∧ (mResN Y o pt n j).2.2.2 ≤ 2 * (fResN X (fOL X o) pt n j).2.2.2) := by
  intro j
  induction j with
  | zero => intro _; exact ⟨P, rfl, rsK.refl, Nat.le_refl _, by show 0 ≤ 2 * 1; omega, by show 0 ≤ 2 * 4; omega⟩
  | succ j ih =>
    intro hj
    obtain ⟨h1, h2, h3, h4, h5⟩ := ih (by omega)
    have sF : fResN X (fOL X o) pt n (j + 1) = fResStep (fOL X o) pt (fResN X (fOL X o) pt n j) j := fResN_succ
    have sM : mResN Y o pt n (j + 1) = mResStep o pt (mResN Y o pt n j) j := by
      unfold mResN
      rw [List.range_succ, List.foldl_append]
      rfl
    rw [sF, sM]
    generalize hF : fResN X (fOL X o) pt n j = F at *
    generalize hM : mResN Y o pt n j = M at *
    obtain ⟨XF, lF, aF, bF⟩ := F
    obtain ⟨YM, lM, aM, bM⟩ := M
    simp only at h1 h2 h3 h4 h5
    subst h2
    have eo : fOL XF o = fOL X o := h3.ol
    have h6 : sn XF 6 = sn X 6 := h3.2.1
    have r := resStep (pt := pt) (left := lF) (l := j) hz h1 (by omega) (by rw [eo]; omega) h5
    rw [eo] at r
    obtain ⟨r1, r2, r3, r4, r5⟩ := r
    exact ⟨r1, r2, h3.trans r3, by omega, r5⟩
/-- a model's due of nothing -/
theorem mResN_zero : ∀ j : Nat, mResN Y o pt 0 j = (Y, 0, 0, 0) := by
  intro j
  induction j with
  | zero => rfl
  | succ j ih =>
    have sM : mResN Y o pt 0 (j + 1) = mResStep o pt (mResN Y o pt 0 j) j := by
      unfold mResN
      rw [List.range_succ, List.foldl_append]
      rfl
    rw [sM, ih]
    unfold mResStep
    exact if_pos (Int.le_refl _)
/-- an order's components, on both sides -/
theorem rsP.comps (P : rsP z k o X Y) (hmd : (sT X 8 1 o).toNat % 2 = 0) : (mComps Y o).map (fun j => sE Y 46 j.toNat) = (fComps X o).map (fun k => [sT X 4 0 k.toNat, sT X 4 1 k.toNat, sT X 4 2 k.toNat]) ∧ (fComps X o).length ≤ 4 := by
  obtain ⟨hR, hI, hS, hB, ho, hst⟩ := P
  obtain ⟨⟨p, p1, p2, p3⟩, -⟩ := (hR.O.2 o ho).1
  have hm : fPc X (p : Nat) % 2 = 0 := by
    rw [p3, Int.toNat_natCast] at hmd
    exact hmd
  obtain ⟨m1, m2, m3, m4, m5, m6, m7, m8⟩ := hR.madeAt hI hS p1 hm
  have e1 : mComps Y o = sE Y 36 p := by
    unfold mComps
    rw [p2, Int.toNat_natCast]
    have : (sT Y 13 2 p).toNat = p := by
      have := m4
      unfold mClst at this
      rw [Int.toNat_natCast] at this
      exact this
    rw [this]
  have e2 : fComps X o = sE X 24 (pix X p) := by
    unfold fComps
    rw [p3, Int.toNat_natCast]
    have : (sT X 2 7 (fPc X (p : Nat) / 2)).toNat = pix X p := m2
    rw [this]
  rw [e1, e2]
  exact ⟨m7, (hI.pt.2.2.2.1 _ m1).2.2.1⟩
end ZBRS
