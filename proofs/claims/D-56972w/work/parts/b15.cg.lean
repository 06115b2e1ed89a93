/-! THE SIMULATION: which classes each invariant reads -/
set_option maxRecDepth 100000
def ceq (X X' : hS) (c : Nat) : Prop := sn X' c = sn X c ∧ (∀ k i : Nat, sT X' c k i = sT X c k i) ∧ ∀ i : Nat, sE X' c i = sE X c i
section ZBV
variable {z : Nat → Nat} {k : Nat} {X X' Y Y' : hS}
theorem ceq.refl {c : Nat} : ceq X X c := ⟨rfl, fun _ _ => rfl, fun _ => rfl⟩
theorem ceq.set {c c' k' i : Nat} {v : Int} (h : ceq X X' c) (hc : c ≠ c') : ceq X (sset X' c' k' i v) c :=
  ⟨h.1, fun k i => by rw [sT_set, if_neg (fun q => hc q.1)]; exact h.2.1 k i, h.2.2⟩
theorem ceq.ssE {c c' i : Nat} {xs : List Int} (h : ceq X X' c) (hc : c ≠ c') : ceq X (ssE X' c' i xs) c :=
  ⟨h.1, h.2.1, fun i => by rw [sE_ssE, if_neg (fun q => hc q.1)]; exact h.2.2 i⟩
theorem ceq.ssA {c c' i : Nat} {xs : List Int} (h : ceq X X' c) (hc : c ≠ c') : ceq X (ssA X' c' i xs) c :=
  ⟨h.1, h.2.1, fun i => by rw [sE_ssA, if_neg (fun q => hc q.1)]; exact h.2.2 i⟩
theorem ceq.snw {c c' : Nat} {xs : List Int} (h : ceq X X' c) (hc : c ≠ c') : ceq X (snw X' c' xs) c :=
  ⟨by rw [sn_w, if_neg hc]; exact h.1, fun k i => by rw [sT_w, if_neg (fun q => hc q.1)]; exact h.2.1 k i, fun i => by rw [sE_w, if_neg (fun q => hc q.1)]; exact h.2.2 i⟩
theorem iPt.cg (h : iPt k X) (h2 : ceq X X' 2) (h3 : ceq X X' 3) (h4 : ceq X X' 4) (h5 : ceq X X' 5) (h21 : ceq X X' 21) (h24 : ceq X X' 24) (h25 : ceq X X' 25) (hn1 : sn X 1 ≤ sn X' 1) : iPt k X' := by
  obtain ⟨a1, a2, a3, a4, a5, a6, a7, a8, a9⟩ := h
  have hnp : np X' = np X := by
    show (sE X' 21 0).length = (sE X 21 0).length
    rw [h21.2.2]
  have hpc : ∀ p : Int, fPc X' p = fPc X p := fPc_congr (h21.2.2 0)
  have hpcl : ∀ p : Nat, pcl X' p = pcl X p := fun p => by unfold pcl; rw [hpc]
  have hpix : ∀ p : Nat, pix X' p = pix X p := fun p => by unfold pix; rw [hpc]
  have hcl : ∀ p : Nat, pcl X p = 2 ∨ pcl X p = 3 := fun p => by unfold pcl; omega
  have hx : ∀ c : Nat, c = 2 ∨ c = 3 → ceq X X' c := fun c hc => by
    rcases hc with rfl | rfl
    · exact h2
    · exact h3
  refine ⟨fun p hp => ?_, by rw [h24.1, h2.1]; exact a2, by rw [h25.1, h2.1]; exact a3, ?_, fun c i hc hi => ?_, ?_, ?_, ?_, ?_⟩
  · rw [hnp] at hp
    rw [hpcl, hpix, h21.2.2, (hx _ (hcl p)).1, (hx _ (hcl p)).2.1]
    exact a1 p hp
  · simp only [h2.1, h2.2.1, h24.2.2, h25.2.2]
    exact a4
  · rw [(hx c hc).1] at hi
    simp only [(hx c hc).2.1]
    exact a5 c i hc hi
  · simp only [h2.1, h4.1, h2.2.1, h4.2.1, h24.2.2]
    exact a6
  · simp only [h4.1, h4.2.1, hnp]
    exact a7
  · simp only [h2.1, h5.1, h25.2.2]
    exact a8
  · unfold fOps at a9 ⊢
    simp only [h5.1, h5.2.1]
    intro q hq
    have := a9 q hq
    omega
theorem iMc.cg (h : iMc X) (h0 : ceq X X' 0) (h1 : ceq X X' 1) (h45 : sn X' 45 = sn X 45) : iMc X' := by
  unfold iMc at h ⊢
  simp only [h45, h1.1, h0.2.1, h1.2.1]
  exact h
theorem iLo.cg (h : iLo X) (h6 : ceq X X' 6) (h7 : ceq X X' 7) (h21 : ceq X X' 21) (h26 : ceq X X' 26) : iLo X' := by
  have hnp : np X' = np X := by
    show (sE X' 21 0).length = (sE X 21 0).length
    rw [h21.2.2]
  have hpc : ∀ p : Int, fPc X' p = fPc X p := fPc_congr (h21.2.2 0)
  unfold iLo at h ⊢
  simp only [h6.1, h26.1, h6.2.1, h7.2.1, hnp, hpc, h26.2.2]
  exact h
theorem iTk.cg (h : iTk X) (h6 : sn X' 6 = sn X 6) (h7 : ceq X X' 7) (h26 : ceq X X' 26) (h27 : ceq X X' 27) : iTk X' := by
  unfold iTk at h ⊢
  simp only [h26.1, h27.1, h7.1, h6, h26.2.2, h27.2.2, h7.2.1]
  exact h
theorem iOr.cg (h : iOr z X) (h6 : ceq X X' 6) (h8 : ceq X X' 8) (h21 : ceq X X' 21) (h26 : sn X' 26 = sn X 26) (h27 : sn X' 27 = sn X 27) : iOr z X' := by
  have hnp : np X' = np X := by
    show (sE X' 21 0).length = (sE X 21 0).length
    rw [h21.2.2]
  have hpc : ∀ p : Int, fPc X' p = fPc X p := fPc_congr (h21.2.2 0)
  unfold iOr at h ⊢
  simp only [h8.1, h6.1, h26, h27, h8.2.1, h6.2.1, hnp, hpc]
  exact h
theorem iSp.cg (h : iSp z X) (h6 : ceq X X' 6) (h8 : ceq X X' 8) : iSp z X' := by
  unfold iSp at h ⊢
  simp only [h8.1, h6.1, h8.2.1, h6.2.1]
  exact h
theorem iQw.cg (h : iQw z X) (h1 : ceq X X' 1) (h2 : ceq X X' 2) (h8 : ceq X X' 8) (h25 : ceq X X' 25) (h45 : ceq X X' 45) : iQw z X' := by
  unfold iQw fQok fOpL at h ⊢
  simp only [h1.1, h8.1, h1.2.1, h8.2.1, h2.2.1, h45.2.2, h25.2.2]
  exact h
theorem tl_cg (h7 : ceq X X' 7) (h8 : ceq X X' 8) (h26 : ceq X X' 26) (o : Nat) : fTl X' o = fTl X o := by
  unfold fTl fOL
  rw [h8.2.1, h26.2.2]
  exact List.map_congr_left (fun t _ => by rw [h7.2.1, h7.2.1])
theorem dv_cg (h7 : ceq X X' 7) (h8 : ceq X X' 8) (h27 : ceq X X' 27) (o : Nat) : fDv X' o = fDv X o := by
  unfold fDv fDelL
  rw [h8.2.1, h27.2.2]
  exact List.map_congr_left (fun t _ => by rw [h7.2.1, h7.2.1])
theorem ch_cg (h6 : ceq X X' 6) (h7 : ceq X X' 7) (h26 : ceq X X' 26) : fch X' = fch X := by
  funext i
  unfold fch
  rw [h6.2.1, h26.2.2]
  exact List.map_congr_left (fun t _ => by rw [h7.2.1])
theorem h_cg (h6 : ceq X X' 6) : fh X' = fh X := by
  funext i
  unfold fh
  rw [h6.2.1]
theorem iRes.cg (h : iRes z X) (h6 : ceq X X' 6) (h7 : ceq X X' 7) (h8 : ceq X X' 8) (h26 : ceq X X' 26) (h27 : ceq X X' 27) : iRes z X' := by
  have ht := fun o => tl_cg h7 h8 h26 o
  have hd := fun o => dv_cg h7 h8 h27 o
  unfold iRes iRb fPr at h ⊢
  simp only [h6.1, h8.1, h6.2.1, h8.2.1, ht, hd]
  exact h
theorem iCo.cg (h : iCo z k X) (h0 : ceq X X' 0) (h6 : ceq X X' 6) (h7 : ceq X X' 7) (h8 : ceq X X' 8) (h27 : ceq X X' 27) : iCo z k X' := by
  have hd : ∀ o : Nat, fDelL X' o = fDelL X o := fun o => by unfold fDelL; rw [h8.2.1]
  unfold iCo fSumO fSumL fCoO fUw fStg at h ⊢
  simp only [h6.1, h7.1, h8.1, h0.2.1, h6.2.1, h7.2.1, h8.2.1, h27.2.2, hd]
  exact h
theorem iHd.cg (h : iHd z X) (h6 : ceq X X' 6) (h7 : ceq X X' 7) (h8 : ceq X X' 8) (h26 : ceq X X' 26) : iHd z X' := by
  have hc := ch_cg h6 h7 h26
  have hh := h_cg h6
  have hol : ∀ o : Nat, fOL X' o = fOL X o := fun o => by unfold fOL; rw [h8.2.1]
  unfold iHd iHb fPr fLotOf at h ⊢
  simp only [h8.1, h8.2.1, h7.2.1, h26.2.2, hol, hh, hc]
  exact h
theorem iEm.cg (h : iEm z X) (h8 : ceq X X' 8) (h26 : ceq X X' 26) (h27 : ceq X X' 27) : iEm z X' := by
  have hol : ∀ o : Nat, fOL X' o = fOL X o := fun o => by unfold fOL; rw [h8.2.1]
  have hdl : ∀ o : Nat, fDelL X' o = fDelL X o := fun o => by unfold fDelL; rw [h8.2.1]
  unfold iEm at h ⊢
  simp only [h8.1, h8.2.1, h26.2.2, h27.2.2, hol, hdl]
  exact h
theorem iCn.cg (h : iCn z k X) (h0 : ceq X X' 0) (h6 : sn X' 6 = sn X 6) (h8 : ceq X X' 8) (h28 : ceq X X' 28) : iCn z k X' := by
  unfold iCn at h ⊢
  simp only [h8.1, h6, h0.2.1, h8.2.1, h28.2.2]
  exact h
theorem iSu.cg (h : iSu z X) (h9 : ceq X X' 9) (h28 : ceq X X' 28) (h48 : ceq X X' 48) : iSu z X' := by
  unfold iSu at h ⊢
  simp only [h9.1, h9.2.1, h48.2.2, h28.2.2]
  exact h
end ZBV
section ZBC2
variable {g : zG} {w0 : hG} {z : Nat → Nat} {a m ol od k : Nat} {S S1 S2 : hS} {gh gh2 : Nat → Nat → Nat} {J J' : zw_W} {σ σ' : zS}
/-- a call that changes both sides: what holds behind it -/
theorem lSt.chg (L : lSt g w0 z a m ol od k S gh J σ) (hx : gext S gh gh2) (hle : ∀ c : Nat, sn S c ≤ sn S2 c) (hRR : rR z S1 S2) (hII : iAll z (k + 1) S1) (hSS : mShape S2) (hBB : mBox S2) (hff : ffr S1 S2) (H : hRep g w0 σ' gh2 S2 J') (j1 : ∃ f, J' ol = some (wLA f)) (j2 : ∃ fd, J' od = some (wDA fd)) : lSt g w0 z a m ol od (k + 1) S2 gh2 J' σ' := by
  obtain ⟨-, -, -, ha, hm, hC, hR, hI, hS, hB⟩ := L
  exact ⟨H, j1, j2, hx.hat hle ha, hx.hat hle hm, hC.ext hx (hle 19) (fun j hj => (hBB.2.1 j hj).trans (hB.2.1 j hj).symm), hRR.frX hII hff, hII.fr hff, hSS, hBB⟩
end ZBC2
