/-! THE SIMULATION: Foundrymark's part moved without a change -/
set_option maxRecDepth 100000
section ZBG2
variable {z : Nat → Nat} {k : Nat} {X X' Y : hS}
/-- the relation, where Foundrymark's part is moved without a change -/
theorem ffr.pc (hf : ffr X X') (p : Int) : fPc X' p = fPc X p := fPc_congr (hf.2.2 21 0 (by decide)) p
theorem ffr.ch (hf : ffr X X') : fch X' = fch X := by
  funext i
  unfold fch
  rw [hf.2.1 6 3 i (by decide), hf.2.2 26 _ (by decide)]
  exact List.map_congr_left (fun t _ => by rw [hf.2.1 7 0 t.toNat (by decide)])
theorem ffr.h (hf : ffr X X') : fh X' = fh X := by
  funext i
  unfold fh
  rw [hf.2.1 6 7 i (by decide)]
theorem ffr.tl (hf : ffr X X') (o : Nat) : fTl X' o = fTl X o := by
  have e : fOL X' o = fOL X o := by
    unfold fOL
    rw [hf.2.1 8 5 o (by decide)]
  unfold fTl
  rw [e, hf.2.2 26 _ (by decide)]
  exact List.map_congr_left (fun t _ => by rw [hf.2.1 7 0 t.toNat (by decide), hf.2.1 7 1 t.toNat (by decide)])
theorem ffr.dl (hf : ffr X X') (o : Nat) : fDelL X' o = fDelL X o := by
  unfold fDelL
  rw [hf.2.1 8 6 o (by decide)]
theorem ffr.dv (hf : ffr X X') (o : Nat) : fDv X' o = fDv X o := by
  unfold fDv
  rw [hf.dl, hf.2.2 27 _ (by decide)]
  exact List.map_congr_left (fun t _ => by rw [hf.2.1 7 0 t.toNat (by decide), hf.2.1 7 1 t.toNat (by decide)])
theorem ffr.eqnp (hf : ffr X X') : np X' = np X := by
  show (sE X' 21 0).length = (sE X 21 0).length
  rw [hf.2.2 21 0 (by decide)]
theorem rR.frX (h : rR z X Y) (hI : iAll z k X) (hf : ffr X X') : rR z X' Y := by
  have hdl := fun o => hf.dl o
  obtain ⟨f1, f2, f3⟩ := hf
  have hf : ffr X X' := ⟨f1, f2, f3⟩
  obtain ⟨hG, hM, hP, hL, hO, hQ, hSu⟩ := h
  refine ⟨?_, ?_, ?_, ?_, ?_, ?_, ?_⟩
  · unfold rG at hG ⊢
    rw [f2 0 5 0 (by decide), f2 0 6 0 (by decide)]
    exact hG
  · exact rM_congr (fun k i => f2 1 k i (by decide)) (f1 1 (by decide)) (fun _ _ => rfl) rfl hM
  · exact rP_congr (fun c k i hc => f2 c k i (by omega)) (fun c i hc => f3 c i (by omega)) (fun _ _ => rfl) (fun _ _ _ => rfl) rfl hP
  · exact rL_congr (fun k i _ _ _ => f2 6 k i (by decide)) (f3 21 0 (by decide)) (f1 6 (by decide)) (fun l _ => by rw [hf.ch]) (fun _ _ _ _ => rfl) (fun _ => rfl) rfl hL
  · refine ⟨by rw [f1 8 (by decide)]; exact hO.1, fun o ho => ?_⟩
    rw [f1 8 (by decide)] at ho
    obtain ⟨g1, g2, g3, g4⟩ := hO.2 o ho
    refine ⟨rOa_congr (fun k _ => f2 8 k o (by decide)) (f3 21 0 (by decide)) (fun _ _ => rfl) g1, rOb_congr (fun k _ => f2 8 k o (by decide)) (fun _ _ => rfl) g2, ⟨by rw [hf.tl]; exact g3.1, g3.2⟩, ?_⟩
    exact rD_congr (hdl o) (f3 27 _ (by decide)) (fun t _ => ⟨f2 7 0 t.toNat (by decide), f2 7 2 t.toNat (by decide)⟩) rfl rfl g4
  · exact rQ_congr (fun m _ => f3 45 m (by decide)) (f1 1 (by decide)) (f1 8 (by decide)) (fun _ _ => ⟨rfl, rfl⟩) hQ
  · exact rS_congr (fun x _ => ⟨f3 28 x (by decide), f2 9 0 x (by decide)⟩) (fun _ _ _ => rfl) rfl hSu
theorem iAll.fr (hI : iAll z k X) (hf : ffr X X') : iAll z k X' := by
  have hnp := hf.eqnp
  have hpc := fun p : Int => hf.pc p
  have hch := hf.ch
  have hh := hf.h
  have htl := fun o => hf.tl o
  have hdl := fun o => hf.dl o
  have hdv := fun o => hf.dv o
  have hol : ∀ o : Nat, fOL X' o = fOL X o := fun o => by
    unfold fOL
    rw [hf.2.1 8 5 o (by decide)]
  obtain ⟨f1, f2, f3⟩ := hf
  have t0 := fun k i => f2 0 k i (by decide)
  have t1 := fun k i => f2 1 k i (by decide)
  have t2 := fun k i => f2 2 k i (by decide)
  have t4 := fun k i => f2 4 k i (by decide)
  have t5 := fun k i => f2 5 k i (by decide)
  have t6 := fun k i => f2 6 k i (by decide)
  have t7 := fun k i => f2 7 k i (by decide)
  have t8 := fun k i => f2 8 k i (by decide)
  have t9 := fun k i => f2 9 k i (by decide)
  have n0 := f1 0 (by decide)
  have n1 := f1 1 (by decide)
  have n2 := f1 2 (by decide)
  have n3 := f1 3 (by decide)
  have n4 := f1 4 (by decide)
  have n5 := f1 5 (by decide)
  have n6 := f1 6 (by decide)
  have n7 := f1 7 (by decide)
  have n8 := f1 8 (by decide)
  have n9 := f1 9 (by decide)
  have n24 := f1 24 (by decide)
  have n25 := f1 25 (by decide)
  have n26 := f1 26 (by decide)
  have n27 := f1 27 (by decide)
  have n45 := f1 45 (by decide)
  have e20 := fun i => f3 20 i (by decide)
  have e21 := fun i => f3 21 i (by decide)
  have e22 := fun i => f3 22 i (by decide)
  have e23 := fun i => f3 23 i (by decide)
  have e24 := fun i => f3 24 i (by decide)
  have e25 := fun i => f3 25 i (by decide)
  have e26 := fun i => f3 26 i (by decide)
  have e27 := fun i => f3 27 i (by decide)
  have e28 := fun i => f3 28 i (by decide)
  have e45 := fun i => f3 45 i (by decide)
  have e48 := fun i => f3 48 i (by decide)
  have hpcl : ∀ p : Nat, pcl X' p = pcl X p := fun p => by unfold pcl; rw [hpc]
  have hpix : ∀ p : Nat, pix X' p = pix X p := fun p => by unfold pix; rw [hpc]
  have hcl : ∀ p : Nat, pcl X p = 2 ∨ pcl X p = 3 := fun p => by unfold pcl; omega
  obtain ⟨i1, i2, i3, i4, i5, i6, i7, i8, i9, i10, i11, i12, i13, i14⟩ := hI
  refine ⟨?_, ?_, ?_, ?_, ?_, ?_, ?_, ?_, ?_, ?_, ?_, ?_, ?_, ?_⟩
  · unfold fFix at i1 ⊢
    simp only [n0, n1, n6, n8, t0, e20, e21, e22, e23]
    exact i1
  · obtain ⟨a1, a2, a3, a4, a5, a6, a7, a8, a9⟩ := i2
    refine ⟨fun p hp => ?_, by rw [n24, n2]; exact a2, by rw [n25, n2]; exact a3, ?_, fun c i hc hi => ?_, ?_, ?_, ?_, ?_⟩
    · rw [hnp] at hp
      rw [hpcl, hpix, e21, f1 _ (by have := hcl p; omega), f2 _ _ _ (by have := hcl p; omega)]
      exact a1 p hp
    · simp only [n2, t2, e24, e25]
      exact a4
    · rw [f1 c (by omega)] at hi
      rw [f2 c _ _ (by omega), f2 c _ _ (by omega), f2 c _ _ (by omega), f2 c _ _ (by omega), f2 c _ _ (by omega), f2 c _ _ (by omega)]
      exact a5 c i hc hi
    · simp only [n2, n4, t2, t4, e24]
      exact a6
    · simp only [n4, t4, hnp]
      exact a7
    · simp only [n2, n5, e25]
      exact a8
    · unfold fOps at a9 ⊢
      simp only [n5, n1, t5]
      exact a9
  · unfold iMc at i3 ⊢
    simp only [n45, n1, t0, t1]
    exact i3
  · unfold iLo at i4 ⊢
    simp only [n6, n26, t6, t7, hnp, hpc, e26]
    exact i4
  · unfold iTk at i5 ⊢
    simp only [n26, n27, n7, n6, e26, e27, t7]
    exact i5
  · unfold iOr at i6 ⊢
    simp only [n8, n6, n26, n27, t8, t6, hnp, hpc]
    exact i6
  · unfold iSp at i7 ⊢
    simp only [n8, n6, t8, t6]
    exact i7
  · unfold iQw fQok fOpL at i8 ⊢
    simp only [n1, n8, t1, t8, t2, e45, e25]
    exact i8
  · unfold iRes iRb fPr at i9 ⊢
    simp only [n6, n8, t6, t8, htl, hdv]
    exact i9
  · unfold iCo fSumO fSumL fCoO fUw fStg at i10 ⊢
    simp only [n6, n7, n8, t0, t6, t7, t8, e27, hdl]
    exact i10
  · unfold iHd iHb fPr fLotOf at i11 ⊢
    simp only [n8, t8, t7, e26, hol, hh, hch]
    exact i11
  · unfold iEm at i12 ⊢
    simp only [n8, t8, e26, e27, hol, hdl]
    exact i12
  · unfold iCn at i13 ⊢
    simp only [n8, n6, t0, t8, e28]
    exact i13
  · unfold iSu at i14 ⊢
    simp only [n9, t9, e48, e28]
    exact i14
end ZBG2
