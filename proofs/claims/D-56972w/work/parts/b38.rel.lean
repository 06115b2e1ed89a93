/-! THE SIMULATION: release takes the promised pieces out of their lots -/
set_option maxRecDepth 100000
/-- what an order has taken isn't what another was delivered -/
def iDj (X : hS) : Prop := ∀ o q : Nat, o < sn X 8 → q < sn X 8 → ∀ t ∈ sE X 26 (fOL X o), ∀ u ∈ sE X 27 (fDelL X q), u.toNat ≠ t.toNat
section ZBU1
variable {z : Nat → Nat} {k o l : Nat} {X Y : hS} {t : Int} {q : Int × Int}
abbrev fRc1 (X : hS) (t : Int) : Int := fCost X t.toNat
theorem fCost_un : fCost (fUnres X t) t.toNat = fCost X t.toNat := by
  unfold fCost fLotOf fUnres
  rw [sT_set, if_neg (by omega), sT_set, if_neg (by omega), sT_set, if_neg (by omega), sT_set, if_neg (by omega)]
theorem rl_lot : fLotOf (fUnres X t) ((t.toNat : Nat) : Int) = fLotOf X t := by
  unfold fLotOf fUnres
  rw [sT_set, if_neg (by omega), Int.toNat_natCast]
theorem rl_n {c : Nat} : sn (fRelStep o X t) c = sn X c := rfl
theorem rl_E {c i : Nat} : sE (fRelStep o X t) c i = sE X c i := rfl
theorem rl_T {c j i : Nat} (h : c ≠ 6 ∧ c ≠ 7 ∧ c ≠ 8) : sT (fRelStep o X t) c j i = sT X c j i := by
  unfold fRelStep fGive fUnres
  rw [sT_set, if_neg (by omega), sT_set, if_neg (by omega), sT_set, if_neg (by omega), sT_set, if_neg (by omega), sT_set, if_neg (by omega)]
theorem rl_ceq {c : Nat} (h : c ≠ 6 ∧ c ≠ 7 ∧ c ≠ 8) : ceq X (fRelStep o X t) c := ⟨rl_n, fun _ _ => rl_T h, fun _ => rl_E⟩
theorem rl_6 {j i : Nat} (h : j ≠ 4 ∧ j ≠ 5 ∧ j ≠ 6) : sT (fRelStep o X t) 6 j i = sT X 6 j i := by
  unfold fRelStep fGive fUnres
  rw [sT_set, if_neg (by omega), sT_set, if_neg (by omega), sT_set, if_neg (by omega), sT_set, if_neg (by omega), sT_set, if_neg (by omega)]
theorem rl_7 {j i : Nat} (h : j ≠ 2) : sT (fRelStep o X t) 7 j i = sT X 7 j i := by
  unfold fRelStep fGive fUnres
  rw [sT_set, if_neg (by omega), sT_set, if_neg (by omega), sT_set, if_neg (by omega), sT_set, if_neg (by omega), sT_set, if_neg (by omega)]
theorem rl_72 {i : Nat} : sT (fRelStep o X t) 7 2 i = if i = t.toNat then fCost X t.toNat else sT X 7 2 i := by
  unfold fRelStep fGive
  rw [sT_set, if_neg (by omega), sT_set, if_neg (by omega), sT_set, if_neg (by omega), sT_set, fCost_un]
  by_cases h : i = t.toNat
  · rw [if_pos ⟨rfl, rfl, h⟩, if_pos h]
  · rw [if_neg (fun w => h w.2.2), if_neg h]
    unfold fUnres
    rw [sT_set, if_neg (by omega)]
theorem rl_8 {j i : Nat} (h : ¬ (j = 10 ∧ i = o)) : sT (fRelStep o X t) 8 j i = sT X 8 j i := by
  unfold fRelStep fGive fUnres
  rw [sT_set, if_neg (by omega), sT_set, if_neg (by omega), sT_set, if_neg (by omega), sT_set, if_neg (by omega), sT_set, if_neg (by omega)]
theorem rl_810 : sT (fRelStep o X t) 8 10 o = sT X 8 10 o + fCost X t.toNat := by
  unfold fRelStep
  rw [sT_set, if_pos ⟨rfl, rfl, rfl⟩, fCost_un]
theorem rl_65 {i : Nat} : sT (fRelStep o X t) 6 5 i = if i = fLotOf X t then sT X 6 5 i - sT X 7 1 t.toNat else sT X 6 5 i := by
  unfold fRelStep fGive
  rw [sT_set, if_neg (by omega), sT_set, if_neg (by omega), sT_set, if_neg (by omega), sT_set, if_neg (by omega)]
  unfold fUnres
  rw [sT_set]
  by_cases h : i = fLotOf X t
  · rw [if_pos ⟨rfl, rfl, h⟩, if_pos h, h]; rfl
  · rw [if_neg (fun w => h w.2.2), if_neg h]
theorem rl_64 {i : Nat} : sT (fRelStep o X t) 6 4 i = if i = fLotOf X t then sT X 6 4 i - sT X 7 1 t.toNat else sT X 6 4 i := by
  unfold fRelStep fGive
  rw [sT_set, if_neg (by omega), sT_set, rl_lot]
  have e4 : ∀ i : Nat, sT (fUnres X t) 6 4 i = sT X 6 4 i := fun i => by unfold fUnres; rw [sT_set, if_neg (by omega)]
  have e7 : ∀ i : Nat, sT (fUnres X t) 7 1 i = sT X 7 1 i := fun i => by unfold fUnres; rw [sT_set, if_neg (by omega)]
  by_cases h : i = fLotOf X t
  · rw [if_pos ⟨rfl, rfl, h⟩, if_pos h, e4, e7, h]
  · rw [if_neg (fun w => h w.2.2), if_neg h, sT_set, if_neg (by omega), sT_set, if_neg (by omega), e4]
theorem rl_66 {i : Nat} : sT (fRelStep o X t) 6 6 i = if i = fLotOf X t then sT X 6 6 i - fCost X t.toNat else sT X 6 6 i := by
  unfold fRelStep fGive
  rw [sT_set, if_neg (by omega), sT_set, if_neg (by omega), sT_set, rl_lot, fCost_un]
  have e6 : ∀ i : Nat, sT (fUnres X t) 6 6 i = sT X 6 6 i := fun i => by unfold fUnres; rw [sT_set, if_neg (by omega)]
  by_cases h : i = fLotOf X t
  · rw [if_pos ⟨rfl, rfl, h⟩, if_pos h, e6, h]
  · rw [if_neg (fun w => h w.2.2), if_neg h, sT_set, if_neg (by omega), e6]
/-- the model's -/
theorem mrl_n {c : Nat} : sn (mRelStep o Y q) c = sn Y c := rfl
theorem mrl_E {c i : Nat} : sE (mRelStep o Y q) c i = sE Y c i := rfl
theorem mCost_un {x : Nat} {p : Int} : mCost (mUnres Y q) x p = mCost Y x p := by
  unfold mCost mUnres
  rw [sT_set, if_neg (by omega), sT_set, if_neg (by omega)]
theorem mrl_T {c j i : Nat} (h : c ≠ 14) (h2 : ¬ (c = 15 ∧ j = 11 ∧ i = o)) : sT (mRelStep o Y q) c j i = sT Y c j i := by
  unfold mRelStep mGive mUnres
  rw [sT_set, if_neg h2, sT_set, if_neg (by omega), sT_set, if_neg (by omega), sT_set, if_neg (by omega)]
theorem mrl_ceq {c : Nat} (h : c ≠ 14 ∧ c ≠ 15) : ceq Y (mRelStep o Y q) c := ⟨mrl_n, fun _ _ => mrl_T h.1 (by omega), fun _ => mrl_E⟩
theorem mrl_14 {j i : Nat} (h : j ≠ 2 ∧ j ≠ 3 ∧ j ≠ 4) : sT (mRelStep o Y q) 14 j i = sT Y 14 j i := by
  unfold mRelStep mGive mUnres
  rw [sT_set, if_neg (by omega), sT_set, if_neg (by omega), sT_set, if_neg (by omega), sT_set, if_neg (by omega)]
theorem mrl_1511 : sT (mRelStep o Y q) 15 11 o = sT Y 15 11 o + mCost Y q.1.toNat (sT Y 19 0 q.2.toNat) := by
  unfold mRelStep
  rw [sT_set, if_pos ⟨rfl, rfl, rfl⟩, mCost_un]
theorem mrl_143 {i : Nat} : sT (mRelStep o Y q) 14 3 i = if i = q.1.toNat then sT Y 14 3 i - sT Y 19 0 q.2.toNat else sT Y 14 3 i := by
  unfold mRelStep mGive
  rw [sT_set, if_neg (by omega), sT_set, if_neg (by omega), sT_set, if_neg (by omega)]
  unfold mUnres
  rw [sT_set]
  by_cases h : i = q.1.toNat
  · rw [if_pos ⟨rfl, rfl, h⟩, if_pos h, h]
  · rw [if_neg (fun w => h w.2.2), if_neg h]
theorem mrl_142 {i : Nat} : sT (mRelStep o Y q) 14 2 i = if i = q.1.toNat then sT Y 14 2 i - sT Y 19 0 q.2.toNat else sT Y 14 2 i := by
  unfold mRelStep mGive
  rw [sT_set, if_neg (by omega), sT_set]
  have e2 : ∀ i : Nat, sT (mUnres Y q) 14 2 i = sT Y 14 2 i := fun i => by unfold mUnres; rw [sT_set, if_neg (by omega)]
  by_cases h : i = q.1.toNat
  · rw [if_pos ⟨rfl, rfl, h⟩, if_pos h, e2, h]
  · rw [if_neg (fun w => h w.2.2), if_neg h, sT_set, if_neg (by omega), e2]
theorem mrl_144 {i : Nat} : sT (mRelStep o Y q) 14 4 i = if i = q.1.toNat then sT Y 14 4 i - mCost Y q.1.toNat (sT Y 19 0 q.2.toNat) else sT Y 14 4 i := by
  unfold mRelStep mGive
  rw [sT_set, if_neg (by omega), sT_set, if_neg (by omega), sT_set, mCost_un]
  have e4 : ∀ i : Nat, sT (mUnres Y q) 14 4 i = sT Y 14 4 i := fun i => by unfold mUnres; rw [sT_set, if_neg (by omega)]
  by_cases h : i = q.1.toNat
  · rw [if_pos ⟨rfl, rfl, h⟩, if_pos h, e4, h]
  · rw [if_neg (fun w => h w.2.2), if_neg h, e4]
/-- one taken piece, on both sides -/
theorem relStep (hR : rR z X Y) (hD : ∀ q' : Nat, q' < sn X 8 → ∀ u ∈ sE X 27 (fDelL X q'), u.toNat ≠ t.toNat) (hl : fLotOf X t < sn X 6) (h1 : q.1.toNat = fLotOf X t) (h2 : sT Y 19 0 q.2.toNat = sT X 7 1 t.toNat) (ho : o < sn X 8) : rR z (fRelStep o X t) (mRelStep o Y q) := by
  have u := fun (c : Nat) (h : c ≠ 6 ∧ c ≠ 7 ∧ c ≠ 8) => rl_ceq (X := X) (o := o) (t := t) h
  have g := fun (c : Nat) (h : c ≠ 14 ∧ c ≠ 15) => mrl_ceq (Y := Y) (o := o) (q := q) h
  have hL := hR.L.2 _ hl
  have ec : mCost Y q.1.toNat (sT Y 19 0 q.2.toNat) = fCost X t.toNat := by
    have e : fLotOf X ((t.toNat : Nat) : Int) = fLotOf X t := by unfold fLotOf; rw [Int.toNat_natCast]
    unfold mCost fCost
    rw [e, h1, h2, hL.2.1, hL.2.2.2.1]
  have enp : np (fRelStep o X t) = np X := rfl
  have epc : ∀ x : Int, fPc (fRelStep o X t) x = fPc X x := fun _ => rfl
  have eOL : ∀ x : Nat, fOL (fRelStep o X t) x = fOL X x := fun x => congrArg Int.toNat (rl_8 (by omega))
  have eDL : ∀ x : Nat, fDelL (fRelStep o X t) x = fDelL X x := fun x => congrArg Int.toNat (rl_8 (by omega))
  refine ⟨?_, ?_, ?_, ?_, ?_, ?_, ?_⟩
  · have hg := hR.G
    unfold rG at hg ⊢
    rw [(g 11 (by decide)).2.1, (g 11 (by decide)).2.1, (u 0 (by decide)).2.1, (u 0 (by decide)).2.1]
    exact hg
  · exact rM_congr (fun k i => (u 1 (by decide)).2.1 k i) rfl (fun k i => (g 12 (by decide)).2.1 k i) rfl hR.M
  · exact rP_congr (fun c k i hc => (u c (by omega)).2.1 k i) (fun c i hc => rfl) (fun k i => (g 13 (by decide)).2.1 k i) (fun c i hc => rfl) rfl hR.P
  · refine ⟨hR.L.1, fun y hy => ?_⟩
    obtain ⟨⟨p, g1, g2, g3⟩, g4, g5, g6, g7, g8⟩ := hR.L.2 y hy
    rw [rl_6 (j := 1) (by decide), rl_6 (j := 7) (by decide), rl_64, rl_65, rl_66, mrl_14 (j := 1) (by decide), mrl_14 (j := 5) (by decide), mrl_142, mrl_143, mrl_144, ec, h2, h1]
    refine ⟨⟨p, g1, g2, g3⟩, ?_, ?_, ?_, g7, ?_⟩
    · rw [g4]
    · rw [g5]
    · rw [g6]
    · have e1 : fch (fRelStep o X t) y = fch X y := fch_congr (rl_6 (by decide)) rfl (fun _ _ => rl_7 (by decide))
      rw [e1, ← g8]
      unfold mch
      rw [mrl_14 (by decide)]; rfl
  · refine ⟨hR.O.1, fun y hy => ?_⟩
    obtain ⟨g1, g2, g3, g4⟩ := hR.O.2 y hy
    refine ⟨rOa_congr (fun j hj => rl_8 (by omega)) rfl (fun j hj => mrl_T (by decide) (by omega)) g1, ⟨?_, ?_, ?_, ?_, ?_⟩, ⟨?_, g3.2⟩, ?_⟩
    · obtain ⟨s, hs⟩ := g2.1
      exact ⟨s, rOs_congr (fun j hj => rl_8 (by omega)) (fun j hj => mrl_T (by decide) (by omega)) hs⟩
    · rw [mrl_T (by decide) (by omega), rl_8 (by omega)]; exact g2.2.1
    · rw [mrl_T (by decide) (by omega), rl_8 (by omega)]; exact g2.2.2.1
    · by_cases e : y = o
      · subst e
        rw [mrl_1511, rl_810, ec, g2.2.2.2.1]
      · rw [mrl_T (by decide) (by omega), rl_8 (by omega)]; exact g2.2.2.2.1
    · rw [mrl_T (by decide) (by omega), rl_8 (by omega)]; exact g2.2.2.2.2
    · have e1 : fTl (fRelStep o X t) y = fTl X y := fTl_congr (eOL y) rfl (fun _ _ => ⟨rl_7 (by decide), rl_7 (by decide)⟩)
      rw [e1]
      exact (mTl_congr (Y' := mRelStep o Y q) (Y := Y) (o := y) rfl rfl (fun x _ => (g 19 (by decide)).2.1 0 _)).trans g3.1
    · exact rD_congr (eDL y) rfl (fun x hx => ⟨rl_7 (by decide), by rw [rl_72, if_neg (hD y hy x hx)]⟩) rfl (mrl_T (by decide) (by omega)) g4
  · exact rQ_congr (fun m _ => rfl) rfl rfl (fun x _ => ⟨mrl_T (by decide) (by omega), mrl_T (by decide) (by omega)⟩) hR.Q
  · exact rS_congr (fun x _ => ⟨rfl, (u 9 (by decide)).2.1 0 x⟩) (fun c i hc => rfl) rfl hR.S
end ZBU1
