/-! THE SIMULATION: an order is finished and no pieces are left; Foundrymark's invariants -/
set_option maxRecDepth 100000
section ZBY2
variable {z : Nat → Nat} {k o : Nat} {X : hS}
theorem fA_c {c : Nat} (h : c ≠ 0 ∧ c ≠ 8) : ceq X (fFiA z X o) c := by
  unfold fFiA
  exact ((ceq.refl.set h.2).set h.2).set h.1
theorem fA_n {c : Nat} : sn (fFiA z X o) c = sn X c := rfl
theorem fA_0 {j i : Nat} (h : j ≠ 9) : sT (fFiA z X o) 0 j i = sT X 0 j i := by
  unfold fFiA
  rw [sT_set, if_neg (by omega), sT_set, if_neg (by omega), sT_set, if_neg (by omega)]
theorem fA_09 : sT (fFiA z X o) 0 9 0 = sT X 0 9 0 + sT X 8 10 o := by
  unfold fFiA
  rw [sT_set, if_pos ⟨rfl, rfl, rfl⟩]
theorem fA_8 {j i : Nat} (h : ¬ ((j = 7 ∨ j = 11) ∧ i = o)) : sT (fFiA z X o) 8 j i = sT X 8 j i := by
  unfold fFiA
  rw [sT_set, if_neg (by omega), sT_set, if_neg (by omega), sT_set, if_neg (by omega)]
theorem fA_87 : sT (fFiA z X o) 8 7 o = (z 4 : Nat) := by
  unfold fFiA
  rw [sT_set, if_neg (by omega), sT_set, if_neg (by omega), sT_set, if_pos ⟨rfl, rfl, rfl⟩]
theorem fA_811 : sT (fFiA z X o) 8 11 o = sT X 0 6 0 := by
  unfold fFiA
  rw [sT_set, if_neg (by omega), sT_set, if_pos ⟨rfl, rfl, rfl⟩]
theorem finInvA (hz : zInj z) (hI : iAll z k X) (ho : o < sn X 8) (hst : sT X 8 7 o = (z 2 : Nat)) (hmd : (sT X 8 1 o).toNat % 2 = 0) (hq : ∀ m : Nat, m < sn X 1 → (o : Int) ∉ sE X 45 m) : iAll z k (fFiA z X o) := by
  obtain ⟨i1, i2, i3, i4, i5, i6, i7, i8, i9, i10, i11, i12, i13, i14⟩ := hI
  have u := fun (c : Nat) (h : c ≠ 0 ∧ c ≠ 8) => fA_c (z := z) (X := X) (o := o) h
  have u6 := u 6 (by decide)
  have u7 := u 7 (by decide)
  have u26 := u 26 (by decide)
  have u27 := u 27 (by decide)
  have f0 := fun (j : Nat) (h : j ≠ 9) => fA_0 (z := z) (X := X) (o := o) (j := j) (i := 0) h
  have v8 : ∀ q i : Nat, ¬ ((q = 7 ∨ q = 11) ∧ i = o) → sT (fFiA z X o) 8 q i = sT X 8 q i := fun q i h => fA_8 h
  have z24 : z 2 ≠ z 4 := fun e => absurd (hz 2 4 (by decide) (by decide) e) (by decide)
  have z25 : z 2 ≠ z 5 := fun e => absurd (hz 2 5 (by decide) (by decide) e) (by decide)
  have z42 : z 4 ≠ z 2 := fun e => z24 e.symm
  have z43 : z 4 ≠ z 3 := fun e => absurd (hz 4 3 (by decide) (by decide) e) (by decide)
  have z23 : z 2 ≠ z 3 := fun e => absurd (hz 2 3 (by decide) (by decide) e) (by decide)
  have st2 : ∀ (q s : Nat), s ≠ 2 → s ≠ 4 → s < 6 → (sT (fFiA z X o) 8 7 q = (z s : Nat) ↔ sT X 8 7 q = (z s : Nat)) := fun q s h2 h4 h6 => by
    by_cases e : q = o
    · rw [e, fA_87, hst]
      constructor
      · intro w
        exact absurd (hz 4 s (by decide) (by omega) (by omega)) (fun e => h4 e.symm)
      · intro w
        exact absurd (hz 2 s (by decide) (by omega) (by omega)) (fun e => h2 e.symm)
    · rw [v8 7 q (by omega)]
  have enp : np (fFiA z X o) = np X := rfl
  have epc : ∀ x : Int, fPc (fFiA z X o) x = fPc X x := fPc_congr ((u 21 (by decide)).2.2 0)
  have eOL : ∀ q : Nat, fOL (fFiA z X o) q = fOL X q := fun q => congrArg Int.toNat (v8 5 q (by omega))
  have eDL : ∀ q : Nat, fDelL (fFiA z X o) q = fDelL X q := fun q => congrArg Int.toNat (v8 6 q (by omega))
  have eTl : ∀ q : Nat, fTl (fFiA z X o) q = fTl X q := fun q => fTl_congr (eOL q) (u26.2.2 _) (fun t _ => ⟨u7.2.1 0 _, u7.2.1 1 _⟩)
  have eDv : ∀ q : Nat, fDv (fFiA z X o) q = fDv X q := fun q => by
    unfold fDv
    rw [eDL, u27.2.2]
    exact List.map_congr_left (fun t _ => by rw [u7.2.1, u7.2.1])
  have ePr : ∀ q : Nat, fPr z (fFiA z X o) q = fPr z X q := fun q => decide_eq_decide.mpr (st2 q 1 (by decide) (by decide) (by decide))
  have ech : ∀ i : Nat, fch (fFiA z X o) i = fch X i := fun i => fch_congr (u6.2.1 3 i) (u26.2.2 _) (fun t _ => u7.2.1 0 _)
  have efh : fh (fFiA z X o) = fh X := funext (fun i => by unfold fh; rw [u6.2.1])
  have cn1 : isum (sn X 8) (fun q => if sT (fFiA z X o) 8 7 q = (z 4 : Nat) ∨ sT (fFiA z X o) 8 7 q = (z 5 : Nat) then (1 : Int) else 0) = isum (sn X 8) (fun q => if sT X 8 7 q = (z 4 : Nat) ∨ sT X 8 7 q = (z 5 : Nat) then (1 : Int) else 0) + 1 := by
    refine isum_up (j := o) ?_ (fun q hne => ?_) ho
    · show (if sT (fFiA z X o) 8 7 o = (z 4 : Nat) ∨ sT (fFiA z X o) 8 7 o = (z 5 : Nat) then (1 : Int) else 0) = (if sT X 8 7 o = (z 4 : Nat) ∨ sT X 8 7 o = (z 5 : Nat) then (1 : Int) else 0) + 1
      rw [fA_87, hst, if_pos (Or.inl rfl), if_neg (by omega)]; rfl
    · show (if sT (fFiA z X o) 8 7 q = (z 4 : Nat) ∨ sT (fFiA z X o) 8 7 q = (z 5 : Nat) then (1 : Int) else 0) = _
      rw [v8 7 q (by omega)]
  refine ⟨?_, i2.cg (u 2 (by decide)) (u 3 (by decide)) (u 4 (by decide)) (u 5 (by decide)) (u 21 (by decide)) (u 24 (by decide)) (u 25 (by decide)) (by rw [(u 1 (by decide)).1]; exact Nat.le_refl _), ?_, i4.cg u6 u7 (u 21 (by decide)) u26, i5.cg rfl u7 u26 u27, ?_, ?_, ?_, ?_, ?_, ?_, ?_, ?_, i14.cg (u 9 (by decide)) (u 28 (by decide)) (u 48 (by decide))⟩
  · unfold fFix at i1 ⊢
    rw [f0 0 (by decide), f0 1 (by decide), f0 2 (by decide), f0 3 (by decide), f0 4 (by decide)]
    exact i1
  · unfold iMc at i3 ⊢
    simp only [(u 1 (by decide)).1, (u 1 (by decide)).2.1, (u 45 (by decide)).1, f0 6 (by decide)]
    exact i3
  · intro q hq'
    obtain ⟨a0, a1, a2, a3, a4, a5, a6, a7, a8, a9, a10, a11, a12, a13, a14, a15, a16⟩ := i6 q hq'
    simp only [epc, enp, u26.1, u27.1, u6.1, u6.2.1]
    rw [v8 0 q (by omega), v8 1 q (by omega), v8 2 q (by omega), v8 3 q (by omega), v8 4 q (by omega), v8 5 q (by omega), v8 6 q (by omega), v8 8 q (by omega), v8 9 q (by omega), v8 10 q (by omega), v8 12 q (by omega), v8 13 q (by omega)]
    by_cases e : q = o
    · subst e
      rw [fA_87, fA_811]
      refine ⟨a0, a1, a2, a3, a4, a5, a6, ⟨4, by decide, rfl⟩, a8, a9, a10, i3.2.1, a12, fun w => by omega, fun w => ?_, fun w => absurd rfl w, a16⟩
      rcases w with w | w
      · exact absurd (hz 4 0 (by decide) (by decide) (by omega)) (by decide)
      · exact absurd (hz 4 1 (by decide) (by decide) (by omega)) (by decide)
    · rw [v8 7 q (by omega), v8 11 q (by omega)]
      exact ⟨a0, a1, a2, a3, a4, a5, a6, a7, a8, a9, a10, a11, a12, a13, a14, a15, a16⟩
  · obtain ⟨a1, a2, a3, a4⟩ := i7
    have w5 : ∀ q : Nat, sT (fFiA z X o) 8 5 q = sT X 8 5 q := fun q => v8 5 q (by omega)
    have w6 : ∀ q : Nat, sT (fFiA z X o) 8 6 q = sT X 8 6 q := fun q => v8 6 q (by omega)
    simp only [iSp, fA_n, w5, w6, u6.2.1]
    refine ⟨a1, a2, fun l y hl hy' h => ?_, a4⟩
    have hy2 := a3 l y hl hy' h
    by_cases e : y = o
    · rw [e, fA_87]; exact Or.inl rfl
    · rw [v8 7 y (by omega)]; exact hy2
  · have hqk : ∀ q : Nat, fQok (fFiA z X o) q ↔ fQok X q := fun q => by
      unfold fQok fOpL
      rw [v8 1 q (by omega), v8 9 q (by omega), v8 8 q (by omega), (u 2 (by decide)).2.1, (u 25 (by decide)).2.2]
    obtain ⟨a1, a2, a3⟩ := i8
    simp only [iQw, hqk, (u 1 (by decide)).1, (u 1 (by decide)).2.1, (u 45 (by decide)).2.2, fA_n]
    refine ⟨fun m hm x hx => ?_, fun m hm => ?_, a3⟩
    · obtain ⟨d1, d2, d3, d4⟩ := a1 m hm x hx
      have hne : x.toNat ≠ o := fun w => hq m hm (by
        have : x = (o : Int) := by omega
        rw [← this]; exact hx)
      rw [v8 7 _ (by omega)]
      exact ⟨d1, d2, d3, d4⟩
    · obtain ⟨d1, d2⟩ := a2 m hm
      refine ⟨d1, fun h => ?_⟩
      obtain ⟨e1, e2, e3, e4⟩ := d2 h
      have hne : (sT X 1 7 m).toNat ≠ o := fun w => by rw [w, hst] at e3; omega
      rw [v8 7 _ (by omega)]
      exact ⟨e1, e2, e3, e4⟩
  · intro l hl
    simp only [fA_n, ePr, eTl, eDv, u6.2.1]
    exact i9 l hl
  · obtain ⟨a1, a2, a3, a4, a5, a6⟩ := i10
    have co : ∀ q : Nat, q < sn X 8 → fCoO z (fFiA z X o) q = fCoO z X q + (if q = o then - sT X 8 10 o else 0) := fun q hq' => by
      unfold fCoO
      rw [eDL, u27.2.2, v8 10 q (by omega)]
      simp only [u7.2.1]
      by_cases e : q = o
      · subst e
        have f1 : fUw z (fFiA z X q) q = false := by
          unfold fUw fStg
          rw [fA_87, decide_eq_false (by omega), decide_eq_false (by omega)]; rfl
        have f2 : fUw z X q = true := by
          unfold fUw fStg
          rw [decide_eq_true hst]; rfl
        rw [f1, f2, if_pos rfl, if_neg (by decide), if_pos rfl]; omega
      · have f1 : fUw z (fFiA z X o) q = fUw z X q := by
          unfold fUw fStg
          rw [v8 7 q (by omega)]
        rw [f1, if_neg e]; omega
    have cs : fSumO z (fFiA z X o) (sn X 8) = fSumO z X (sn X 8) := by
      have e1 : isum (sn X 8) (fCoO z (fFiA z X o)) = isum (sn X 8) (fCoO z X) + - sT X 8 10 o := by
        have h1 : isum (sn X 8) (fCoO z (fFiA z X o)) = isum (sn X 8) (fun q => fCoO z X q + (if q = o then - sT X 8 10 o else 0)) := isum_cg co
        rw [h1]
        exact isum_up (j := o) (by show fCoO z X o + (if o = o then _ else _) = _; rw [if_pos rfl]) (fun q hq => by show fCoO z X q + (if q = o then _ else _) = _; rw [if_neg hq]; omega) ho
      have e3 : fSumO z (fFiA z X o) (sn X 8) = sT X 0 9 0 + sT X 8 10 o + isum (sn X 6) (fun l => sT X 6 6 l) + isum (sn X 8) (fCoO z (fFiA z X o)) := by
        unfold fSumO fSumL
        simp only [fA_n, fA_09, u6.2.1]
        rfl
      have e4 : fSumO z X (sn X 8) = sT X 0 9 0 + isum (sn X 6) (fun l => sT X 6 6 l) + isum (sn X 8) (fCoO z X) := rfl
      rw [e3, e4, e1]
      omega
    refine ⟨fun l hl => ?_, fun q hq' => ?_, fun t ht => ?_, ?_, ?_, ?_⟩
    · rw [u6.2.1]; exact a1 l hl
    · rw [v8 10 q (by omega)]; exact a2 q hq'
    · rw [u7.2.1]; exact a3 t ht
    · rw [fA_09]; have := a2 o ho; omega
    · rw [fA_n, cs, f0 7 (by decide), f0 8 (by decide)]; exact a5
    · rw [f0 7 (by decide), f0 8 (by decide)]; exact a6
  · intro q hq' hb t ht
    rw [ePr] at hb
    rw [eOL, u26.2.2] at ht
    have e7 : fLotOf (fFiA z X o) t = fLotOf X t := by unfold fLotOf; rw [u7.2.1]
    rw [e7, efh, funext ech]
    exact i11 q hq' hb t ht
  · intro q hq'
    obtain ⟨a1, a2, a3⟩ := i12 q hq'
    rw [eOL, eDL, u26.2.2, u27.2.2]
    exact ⟨fun w => a1 ((st2 q 0 (by decide) (by decide) (by decide)).mp w), fun w => a2 (fun w2 => w ((st2 q 5 (by decide) (by decide) (by decide)).mpr w2)), a3⟩
  · obtain ⟨a1, a2, a3, a4, a5⟩ := i13
    refine ⟨by rw [f0 5 (by decide)]; exact a1, by rw [f0 5 (by decide)]; exact a2, by rw [f0 5 (by decide)]; exact a3, ?_, fun x hx => by rw [(u 28 (by decide)).2.2, f0 5 (by decide)]; exact a5 x hx⟩
    rw [fA_n, fA_n, cn1, f0 5 (by decide)]
    omega
end ZBY2
