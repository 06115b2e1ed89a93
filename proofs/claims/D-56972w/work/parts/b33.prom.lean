/-! THE SIMULATION: a promised order takes pieces of a lot; a new order is promised -/
set_option maxRecDepth 100000
section ZBP2
variable {z : Nat → Nat} {k : Nat} {X Y : hS} {o l m : Nat} {t : Int}
theorem tk_ceq {c : Nat} (h : c ≠ 6 ∧ c ≠ 7 ∧ c ≠ 26) : ceq X (fTakeS X m l t) c := ⟨fTakeS_n h.2.1, fun _ _ => fTakeS_T h.2.1 (by omega), fun _ => fTakeS_E h.2.1 (by omega)⟩
theorem mtk_ceq {c : Nat} (h : c ≠ 14 ∧ c ≠ 19 ∧ c ≠ 38 ∧ c ≠ 39) : ceq Y (mTakeS Y o l t) c := ⟨mTakeS_n h.2.1, fun _ _ => mTakeS_T h.2.1 (by omega), fun _ => mTakeS_E h.2.1 (by omega)⟩
theorem pairTake (hz : zInj z) (hR : rR z X Y) (hI : iAll z k X) (hS : mShape Y) (hB : mBox Y) (ho : o < sn X 8) (hst : sT X 8 7 o = (z 1 : Nat)) (hl : l < sn X 6) (ht : 0 < t) (ht2 : t ≤ sT X 6 4 l - sT X 6 5 l) (hh : tHeld (fh X) (fch X) 100 l = false) (hlen : (sE X 26 (fOL X o)).length < 400) :
    rR z (fTakeS X (fOL X o) l t) (mTakeS Y o l t) ∧ iAll z k (fTakeS X (fOL X o) l t) ∧ mShape (mTakeS Y o l t) ∧ mBox (mTakeS Y o l t) := by
  have q1 := rR_take (l := l) (t := t) hR hz hI.tk hI.lo hI.or hI.sp hB ho hst hl ht
  have q4 := mBox_take (o := o) (l := l) hB ht
  have hAv := hI.Av l hl
  obtain ⟨i1, i2, i3, i4, i5, i6, i7, i8, i9, i10, i11, i12, i13, i14⟩ := hI
  have u := fun (c : Nat) (h : c ≠ 6 ∧ c ≠ 7 ∧ c ≠ 26) => tk_ceq (X := X) (m := fOL X o) (l := l) (t := t) h
  have u8 := u 8 (by decide)
  have z14 : z 1 ≠ z 4 := fun e => absurd (hz 1 4 (by decide) (by decide) e) (by decide)
  have z15 : z 1 ≠ z 5 := fun e => absurd (hz 1 5 (by decide) (by decide) e) (by decide)
  have z01 : z 0 ≠ z 1 := fun e => absurd (hz 0 1 (by decide) (by decide) e) (by decide)
  have o5 := (i6 o ho).2.2.2.2.2.1
  have hsep : ∀ i : Nat, i < sn X 6 → (sT X 6 3 i).toNat ≠ fOL X o := by
    intro i hi e
    have h3 := (i4 i hi).2.2.2.1
    unfold fOL at e
    rcases i7.2.2.1 i o hi ho (by omega) with q | q <;> omega
  have hse2 : ∀ q : Nat, q < sn X 8 → q ≠ o → fOL X q ≠ fOL X o := by
    intro q hq hne e
    have h5 := (i6 q hq).2.2.2.2.2.1
    unfold fOL at e
    exact hne (i7.1 q o hq ho (by omega))
  have t6 : ∀ j q : Nat, j ≠ 5 → sT (fTakeS X (fOL X o) l t) 6 j q = sT X 6 j q := fun j q hj => fTakeS_T (by decide) (by omega)
  have n6 : sn (fTakeS X (fOL X o) l t) 6 = sn X 6 := fTakeS_n (by decide)
  have n26 : sn (fTakeS X (fOL X o) l t) 26 = sn X 26 := fTakeS_n (by decide)
  have eOL : ∀ q : Nat, fOL (fTakeS X (fOL X o) l t) q = fOL X q := fun q => congrArg Int.toNat (u8.2.1 5 q)
  have eDL : ∀ q : Nat, fDelL (fTakeS X (fOL X o) l t) q = fDelL X q := fun q => congrArg Int.toNat (u8.2.1 6 q)
  have ech : ∀ i : Nat, i < sn X 6 → fch (fTakeS X (fOL X o) l t) i = fch X i := fun i hi => take_fch i5 i4 hi (hsep i hi)
  have eh : fh (fTakeS X (fOL X o) l t) = fh X := by funext i; unfold fh; rw [t6 7 i (by decide)]
  have hlt : ∀ i : Nat, i < sn X 6 → ∀ y ∈ fch X i, y < sn X 6 := by
    intro i hi y hy
    obtain ⟨t, ht, rfl⟩ := List.mem_map.mp hy
    have := (i4 i hi).2.2.2.2.2 t ht
    omega
  have eHl : ∀ i : Nat, i < sn X 6 → tHeld (fh (fTakeS X (fOL X o) l t)) (fch (fTakeS X (fOL X o) l t)) 100 i = tHeld (fh X) (fch X) 100 i := fun i hi => by
    rw [eh]
    exact tHeld_cg (fun _ _ => rfl) ech hlt 100 i hi
  have oldE : ∀ (i : Nat) (x : Int), i < sn X 26 → x ∈ sE X 26 i → x.toNat < sn X 7 ∧ 0 ≤ x := fun i x hi hx => by
    have := i5.1 i hi x hx
    omega
  have t7 : ∀ (j q : Nat), q < sn X 7 → sT (fTakeS X (fOL X o) l t) 7 j q = sT X 7 j q := fun j q hq => fTakeS_T7 (by omega)
  have e27 : ∀ q : Nat, q < sn X 8 → ∀ x ∈ sE X 27 (fDelL X q), x.toNat < sn X 7 := fun q hq x hx => by
    have h6 := (i6 q hq).2.2.2.2.2.2.1
    have := i5.2.1 (fDelL X q) (by unfold fDelL; omega) x hx
    omega
  refine ⟨q1, ⟨?_, i2.cg (u 2 (by decide)) (u 3 (by decide)) (u 4 (by decide)) (u 5 (by decide)) (u 21 (by decide)) (u 24 (by decide)) (u 25 (by decide)) (by rw [(u 1 (by decide)).1]; exact Nat.le_refl _), i3.cg (u 0 (by decide)) (u 1 (by decide)) (u 45 (by decide)).1, ?_, ?_, ?_, ?_, i8.cg (u 1 (by decide)) (u 2 (by decide)) (u 8 (by decide)) (u 25 (by decide)) (u 45 (by decide)), ?_, ?_, ?_, ?_, i13.cg (u 0 (by decide)) n6 (u 8 (by decide)) (u 28 (by decide)), i14.cg (u 9 (by decide)) (u 28 (by decide)) (u 48 (by decide))⟩, ?_, q4⟩
  · unfold fFix at i1 ⊢
    have f0 := u 0 (by decide)
    rw [f0.1, f0.2.1, f0.2.1, f0.2.1, f0.2.1, f0.2.1, (u 20 (by decide)).2.2, (u 21 (by decide)).2.2, (u 22 (by decide)).2.2, (u 23 (by decide)).2.2, (u 1 (by decide)).1, n6, u8.1]
    exact i1
  · have enp : np (fTakeS X (fOL X o) l t) = np X := by
      show (sE _ 21 0).length = (sE X 21 0).length
      rw [(u 21 (by decide)).2.2]
    have epc : ∀ q : Int, fPc (fTakeS X (fOL X o) l t) q = fPc X q := fPc_congr ((u 21 (by decide)).2.2 0)
    intro i hi
    rw [n6] at hi
    obtain ⟨a1, ⟨p', a2, a3⟩, a4, a5, a6, a7⟩ := i4 i hi
    rw [t6 0 i (by decide), t6 1 i (by decide), t6 2 i (by decide), t6 3 i (by decide), t6 7 i (by decide), n26, fTakeS_E (by decide) (fun w => hsep i hi w.2)]
    refine ⟨a1, ⟨p', by rw [enp]; exact a2, by rw [epc]; exact a3⟩, a4, a5, a6, fun x hx => ?_⟩
    rw [t7 0 _ (oldE _ x (by omega) hx).1]
    exact a7 x hx
  · obtain ⟨a1, a2, a3⟩ := i5
    refine ⟨fun i hi x hx => ?_, fun i hi x hx => ?_, fun x hx => ?_⟩
    · rw [n26] at hi
      rw [fTakeS_n7]
      by_cases e : i = fOL X o
      · rw [e, fTakeS_26, List.mem_append, List.mem_singleton] at hx
        rcases hx with hx | hx
        · have := a1 (fOL X o) (by omega) x hx
          omega
        · omega
      · rw [fTakeS_E (by decide) (fun w => e w.2)] at hx
        have := a1 i hi x hx
        omega
    · rw [(u 27 (by decide)).1] at hi
      rw [(u 27 (by decide)).2.2] at hx
      rw [fTakeS_n7]
      have := a2 i hi x hx
      omega
    · rw [fTakeS_n7] at hx
      rw [n6]
      by_cases e : x = sn X 7
      · rw [e, fTakeS_T70, fTakeS_T71]
        omega
      · rw [t7 0 x (by omega), t7 1 x (by omega)]
        exact a3 x (by omega)
  · have enp : np (fTakeS X (fOL X o) l t) = np X := by
      show (sE _ 21 0).length = (sE X 21 0).length
      rw [(u 21 (by decide)).2.2]
    have epc : ∀ q : Int, fPc (fTakeS X (fOL X o) l t) q = fPc X q := fPc_congr ((u 21 (by decide)).2.2 0)
    unfold iOr at i6 ⊢
    simp only [u8.1, u8.2.1, enp, epc, n26, n6, (u 27 (by decide)).1, t6 1 _ (by decide)]
    exact i6
  · unfold iSp at i7 ⊢
    simp only [u8.1, u8.2.1, n6, t6 3 _ (by decide)]
    exact i7
  · intro y hy
    rw [n6] at hy
    obtain ⟨a1, a2, a3⟩ := i9 y hy
    have b1 : fPr z X o = true := decide_eq_true hst
    have bo : ∀ q : Nat, fPr z (fTakeS X (fOL X o) l t) q = fPr z X q := fun q => by unfold fPr; rw [u8.2.1]
    have etl : ∀ q : Nat, q < sn X 8 → q ≠ o → fTl (fTakeS X (fOL X o) l t) q = fTl X q := fun q hq hne => take_fTl i5 (i6 q hq).2.2.2.2.2.1 (hse2 q hq hne)
    have etlo : fTl (fTakeS X (fOL X o) l t) o = fTl X o ++ [((l : Int), t)] := take_fTl_o i5 o5
    have edv : ∀ q : Nat, q < sn X 8 → fDv (fTakeS X (fOL X o) l t) q = fDv X q := fun q hq => take_fDv i5 (i6 q hq).2.2.2.2.2.2.1
    have epl : pl (fTl (fTakeS X (fOL X o) l t) o) y = pl (fTl X o) y + (if y = l then t else 0) := by
      rw [etlo, pl_app, pl_cons, pl_nil]
      by_cases e : y = l
      · rw [if_pos e, if_pos (show ((l : Int), t).1 = (y : Int) by show (l : Int) = y; omega)]; omega
      · rw [if_neg e, if_neg (show ¬ ((l : Int), t).1 = (y : Int) by show ¬ (l : Int) = y; omega)]; omega
    have c1 : isum (sn X 8) (fun q => if fPr z (fTakeS X (fOL X o) l t) q = true then pl (fTl (fTakeS X (fOL X o) l t) q) y else 0) = isum (sn X 8) (fun q => if fPr z X q = true then pl (fTl X q) y else 0) + (if y = l then t else 0) := by
      have h1 : isum (sn X 8) (fun q => if fPr z (fTakeS X (fOL X o) l t) q = true then pl (fTl (fTakeS X (fOL X o) l t) q) y else 0) = isum (sn X 8) (fun q => (if fPr z X q = true then pl (fTl X q) y else 0) + if q = o then (if y = l then t else 0) else 0) := isum_cg (fun q hq => by
        show (if fPr z (fTakeS X (fOL X o) l t) q = true then pl (fTl (fTakeS X (fOL X o) l t) q) y else 0) = (if fPr z X q = true then pl (fTl X q) y else 0) + if q = o then (if y = l then t else 0) else 0
        rw [bo]
        by_cases e : q = o
        · rw [e, b1, if_pos rfl, if_pos rfl, if_pos rfl, epl]
        · rw [etl q hq e, if_neg e]; omega)
      rw [h1]
      refine isum_up (j := o) ?_ (fun q hq => ?_) ho
      · show _ + (if o = o then _ else _) = _
        rw [if_pos rfl]
      · show _ + (if q = o then _ else _) = _
        rw [if_neg hq]; omega
    have c2 : isum (sn X 8) (fun q => (if fPr z (fTakeS X (fOL X o) l t) q = true then 0 else pl (fTl (fTakeS X (fOL X o) l t) q) y) + pl (fDv (fTakeS X (fOL X o) l t) q) y) = isum (sn X 8) (fun q => (if fPr z X q = true then 0 else pl (fTl X q) y) + pl (fDv X q) y) := isum_cg (fun q hq => by
        show (if fPr z (fTakeS X (fOL X o) l t) q = true then 0 else pl (fTl (fTakeS X (fOL X o) l t) q) y) + pl (fDv (fTakeS X (fOL X o) l t) q) y = _
        rw [bo, edv q hq]
        by_cases e : q = o
        · rw [e, b1, if_pos rfl, if_pos rfl]
        · rw [etl q hq e])
    rw [u8.1, c1, c2, fTakeS_T5, t6 4 y (by decide), t6 2 y (by decide)]
    by_cases e : y = l
    · rw [if_pos e, if_pos e, e]
      rw [e] at a1 a2 a3
      exact ⟨by omega, by omega, a3⟩
    · rw [if_neg e, if_neg e]
      exact ⟨by omega, a2, a3⟩
  · obtain ⟨a1, a2, a3, a4, a5, a6⟩ := i10
    have co : ∀ q : Nat, q < sn X 8 → fCoO z (fTakeS X (fOL X o) l t) q = fCoO z X q := fun q hq => by
      unfold fCoO fUw fStg
      rw [eDL, u8.2.1, u8.2.1, (u 27 (by decide)).2.2, List.map_congr_left (fun x hx => t7 2 _ (e27 q hq x hx))]
    have cs : fSumO z (fTakeS X (fOL X o) l t) (sn X 8) = fSumO z X (sn X 8) := by
      unfold fSumO fSumL
      rw [n6, (u 0 (by decide)).2.1, List.map_congr_left (fun q hq => co q (List.mem_range.mp hq))]
      simp only [t6 6 _ (by decide)]
    refine ⟨fun y hy => ?_, fun q hq => ?_, fun x hx => ?_, ?_, ?_, ?_⟩
    · rw [n6] at hy
      rw [t6 6 y (by decide)]; exact a1 y hy
    · rw [u8.1] at hq
      rw [u8.2.1]; exact a2 q hq
    · rw [fTakeS_n7] at hx
      by_cases e : x = sn X 7
      · rw [e, fTakeS_T72]; exact Int.le_refl _
      · rw [t7 2 x (by omega)]; exact a3 x (by omega)
    · rw [(u 0 (by decide)).2.1]; exact a4
    · rw [u8.1, cs, (u 0 (by decide)).2.1, (u 0 (by decide)).2.1]; exact a5
    · rw [(u 0 (by decide)).2.1, (u 0 (by decide)).2.1]; exact a6
  · intro q hq hb x hx
    rw [u8.1] at hq
    have hb : fPr z X q = true := by
      unfold fPr at hb ⊢
      rw [u8.2.1] at hb
      exact hb
    rw [eOL] at hx
    have oldc : x ∈ sE X 26 (fOL X q) → tHeld (fh (fTakeS X (fOL X o) l t)) (fch (fTakeS X (fOL X o) l t)) 100 (fLotOf (fTakeS X (fOL X o) l t) x) = false := fun hx => by
      have q5 := (i6 q hq).2.2.2.2.2.1
      have hx7 := oldE (fOL X q) x (by unfold fOL; omega) hx
      have e7 : fLotOf (fTakeS X (fOL X o) l t) x = fLotOf X x := by unfold fLotOf; rw [t7 0 _ hx7.1]
      have hl7 := (i5.2.2 x.toNat hx7.1).1
      rw [e7, eHl _ (by unfold fLotOf; omega)]
      exact i11 q hq hb x hx
    by_cases e : q = o
    · rw [e, fTakeS_26, List.mem_append, List.mem_singleton] at hx
      rcases hx with hx | hx
      · exact oldc (by rw [e]; exact hx)
      · have e7 : fLotOf (fTakeS X (fOL X o) l t) x = l := by
          unfold fLotOf
          rw [hx, Int.toNat_natCast, fTakeS_T70, Int.toNat_natCast]
        rw [e7, eHl l hl]
        exact hh
    · rw [fTakeS_E (by decide) (fun w => hse2 q hq e w.2)] at hx
      exact oldc hx
  · intro q hq
    rw [u8.1] at hq
    obtain ⟨a1, a2, a3⟩ := i12 q hq
    rw [u8.2.1, eOL, eDL, (u 27 (by decide)).2.2]
    by_cases e : q = o
    · rw [e, hst]
      refine ⟨fun w => by omega, fun w => ?_, ?_⟩
      · rw [e, hst] at a2
        exact a2 w
      · rw [fTakeS_26, List.length_append]
        exact hlen
    · rw [fTakeS_E (by decide) (fun w => hse2 q hq e w.2)]
      exact ⟨a1, a2, a3⟩
  · have g := fun (c : Nat) (h : c ≠ 14 ∧ c ≠ 19 ∧ c ≠ 38 ∧ c ≠ 39) => mtk_ceq (Y := Y) (o := o) (l := l) (t := t) h
    have gn : ∀ c : Nat, c ≠ 19 → sn (mTakeS Y o l t) c = sn Y c := fun c hc => mTakeS_n hc
    obtain ⟨s1, s2, s3, s4, s5⟩ := hS
    refine ⟨?_, ?_, ?_, ?_, ?_⟩
    · unfold mFix at s1 ⊢
      have f := g 11 (by decide)
      rw [f.1, f.2.1, f.2.1, f.2.1, f.2.1, f.2.1, f.2.1, (g 30 (by decide)).2.2, (g 31 (by decide)).2.2, (g 32 (by decide)).2.2, (g 33 (by decide)).2.2, gn 12 (by decide), gn 13 (by decide), gn 14 (by decide), gn 15 (by decide)]
      exact s1
    · simp only [(g 13 (by decide)).1, (g 13 (by decide)).2.1, (g 36 (by decide)).2.2, (g 37 (by decide)).2.2, (g 46 (by decide)).1]
      exact s2
    · intro y hy
      rw [gn 14 (by decide)] at hy
      rw [mTakeS_T (by decide) (by omega), mTakeS_T (by decide) (by omega), (g 41 (by decide)).2.2]
      exact s3 y hy
    · simp only [(g 15 (by decide)).1, (g 15 (by decide)).2.1, (g 12 (by decide)).1]
      exact s4
    · rw [gn 36 (by decide), gn 37 (by decide), gn 41 (by decide), gn 38 (by decide), gn 39 (by decide), gn 40 (by decide), gn 13 (by decide), gn 14 (by decide), gn 15 (by decide)]
      exact s5
end ZBP2
