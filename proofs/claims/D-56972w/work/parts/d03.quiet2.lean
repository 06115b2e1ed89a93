/-! THE ROOM: holds, measurings, withdrawals, scraps -/
set_option maxRecDepth 100000
section ZD3
variable {z : Nat → Nat} {k k2 o l : Nat} {X X' X2 S S2 Y : hS}
theorem hl_same {i : Nat} {on : Bool} : sameW X (fHl X i on) :=
  ⟨⟨rfl, fun j l hj => fHl_T (by omega)⟩, ⟨rfl, fun j l _ => fHl_T (by omega)⟩, ⟨rfl, fun j l _ => fHl_T (by omega)⟩, ⟨rfl, fun j l => fHl_T (by omega)⟩, ⟨rfl, fun j l _ => fHl_T (by omega)⟩, ⟨rfl, fun l => fHl_T (by omega)⟩, rfl, fun _ _ _ => rfl⟩
theorem stHo {v : Int} {on : Bool} (hz : zInj z) (hRr : rR z S S) (hI : iAll z k S) (hMS : mShape S) (hB : mBox S) (hI2 : iAll z k2 S2) (hR : iRn z S) (h : pHo z S S2 v on) : gRn z S S2 := by
  rcases h with ⟨v, rfl⟩ | ⟨-, rfl⟩
  · exact .mt hI hR
  · obtain ⟨a1, a2, a3, a4⟩ := pairHl (i := v.toNat) (on := on) hRr hI.no hMS hB
    have g1 := hI.same (hl_same (i := v.toNat) (on := on)) hR
    have g2 := loseW hz a1 a2 a3 a4 g1.2 (sn S 8) (Nat.le_refl _)
    obtain ⟨-, -, -, -, -, -, -, -, hf, -⟩ := pairHold (q := v.toNat) (on := on) hz hRr hI hMS hB
    exact (g1.trans g2).fr2 hf hI2
theorem stMe {v w : Int} (hz : zInj z) (hRr : rR z S S) (hI : iAll z k S) (hMS : mShape S) (hB : mBox S) (hI2 : iAll z k2 S2) (hR : iRn z S) (h : pMe z S S2 v w) : gRn z S S2 := by
  rcases h with ⟨v, rfl⟩ | ⟨hv, -, p', rfl⟩
  · exact .mt hI hR
  · obtain ⟨q, hq, hq6⟩ := idx hv
    have eq : v.toNat = q := by omega
    rw [eq] at hI2 ⊢
    obtain ⟨p, hp, hqp⟩ := (hI.lo q hq6).2.1
    have eL : fLp S q = fPc S p := by
      unfold fLp
      rw [hqp]; rfl
    have eMS : fMeasS S q w = fHl (fOutS S (pcl S p) (pix S p) w) q (fOut S (pcl S p) (pix S p) w || fh S q) := by
      unfold fMeasS fHl fMeasOut
      unfold pcl pix
      rw [eL]
    have hcl : pcl S p = 2 ∨ pcl S p = 3 := by unfold pcl; omega
    obtain ⟨c1, c2, c3, c4⟩ := pairOut (v := w) hRr hI hMS hB hp
    have g0 := hI.same ((outS_chF (c := pcl S p) (j := pix S p) (v := w)).same hcl) hR
    obtain ⟨a1, a2, a3, a4⟩ := pairHl (i := q) (on := fOut S (pcl S p) (pix S p) w || fh S q) c1 c2.no c3 c4
    have g1 := c2.same (hl_same (i := q) (on := fOut S (pcl S p) (pix S p) w || fh S q)) g0.2
    have g2 := loseW hz a1 a2 a3 a4 g1.2 (sn S 8) (Nat.le_refl _)
    rw [← eMS] at g1 g2
    have g := (g0.trans g1).trans g2
    have hf : ffr (fLoseN z (fMeasS S q w) (sn S 8)).1 (mMeasS (mt (fLoseN z (fMeasS S q w) (sn S 8)).1 0) q p' w).1 := by
      generalize (fLoseN z (fMeasS S q w) (sn S 8)).1 = T
      have o1 : ∀ U : hS, ffr T U → ffr T (mOutS U p' w) := fun U hU => hU.trans outS_chM.fr
      unfold mMeasS
      split
      · have hL : ∀ (V : hS) (n : Nat), ffr V (mLoseN V n).1 := by
          intro V n
          induction n with
          | zero => exact .refl
          | succ n ih =>
            rw [mLoseN_succ']
            unfold mLoseStep
            split
            · exact ih.trans mFr_ffr
            · exact ih
        exact ((o1 _ ffr.mt).set (by decide)).trans (hL _ _)
      · exact o1 _ ffr.mt
    exact g.fr2 hf hI2
theorem stWd {v : Int} (hz : zInj z) (hI : iAll z k S) (hI2 : iAll z k2 S2) (hR : iRn z S) (h : pWd z S S2 v) : gRn z S S2 := by
  rcases h with ⟨v, rfl⟩ | ⟨hv, hst, rfl⟩
  · exact .mt hI hR
  · obtain ⟨o, ho, ho8⟩ := idx hv
    have eo : v.toNat = o := by omega
    rw [eo] at hst hI2 ⊢
    exact (frW hz hI.pt hI.lo hI.or hI.tk hI.sp hR ho8 hst).fr2 ((ffr.mt (v := 0)).trans mFr_ffr) hI2
theorem stSc {v n : Int} (hz : zInj z) (hI : iAll z k S) (hI2 : iAll z k2 S2) (hR : iRn z S) (h : psSc z S S2 v n) : gRn z S S2 := by
  rcases h with ⟨v, rfl⟩ | ⟨hv, hc, rfl⟩
  · exact .mt hI hR
  · obtain ⟨o, ho, ho8⟩ := idx hv
    have eo : v.toNat = o := by omega
    rw [eo] at hc hI2 ⊢
    obtain ⟨h1, h2, h3⟩ := scrap0 hz hI ho8 hc
    generalize hw : sT S 8 8 o - n = w at *
    have hg : gW z S (sset S 8 8 o w) := ⟨⟨Nat.le_refl _, fun j l _ _ => (s88_ceq (by decide)).2.1 j l⟩, ⟨Nat.le_refl _, fun j l _ _ => (s88_ceq (by decide)).2.1 j l⟩, ⟨Nat.le_refl _, fun j l _ hj => s88_T (by omega)⟩, ⟨Nat.le_refl _, fun j l _ => (s88_ceq (by decide)).2.1 j l⟩, ⟨Nat.le_refl _, fun j l _ _ => (s88_ceq (by decide)).2.1 j l⟩, ⟨Nat.le_refl _, fun l _ => (s88_ceq (by decide)).2.1 0 l⟩, pgr.same rfl, fun i _ => ⟨[], (List.append_nil _).symm⟩, fun q s _ _ h6 hs => ⟨⟨s, ⟨by omega, fun _ => Nat.le_refl _⟩, h6, by rw [s88_T (by decide)]; exact hs⟩, rfl, by
        rw [s88_8]
        split
        · rename_i e
          rw [e]; omega
        · exact Int.le_refl _, fun _ => s88_T (by decide)⟩, fun _ _ _ => rfl, fun _ _ => rfl⟩
    refine gRn.fr2 (X' := sset S 8 8 o w) ⟨hg, ?_⟩ ((ffr.mt (v := 0)).set (by decide)) hI2
    obtain ⟨⟨hD, hLt, hC⟩, hM, hPq⟩ := hR
    have e5 : ∀ q : Nat, fOL (sset S 8 8 o w) q = fOL S q := fun q => congrArg Int.toNat (s88_T (by decide))
    have e6 : ∀ q : Nat, fDelL (sset S 8 8 o w) q = fDelL S q := fun q => congrArg Int.toNat (s88_T (by decide))
    refine ⟨⟨fun p q hp hq t ht u hu => ?_, fun l hl => ?_, fun p hp hne => ?_⟩, fun p hp hne => ?_, fun p hp => ?_⟩
    · rw [e5] at ht
      rw [e6] at hu
      exact hD p q hp hq t ht u hu
    · rcases hLt l hl with w1 | ⟨w1, w2, q, w3, w4, w5, w6, w7, w8⟩
      · exact Or.inl w1
      · refine Or.inr ⟨w1, w2, q, w3, (s88_T (by decide)).trans w4, (s88_T (by decide)).trans w5, (s88_T (by decide)).trans w6, ?_, ?_⟩
        · rw [s88_T (by decide)]; exact w7
        · unfold fPr
          rw [s88_T (by decide)]
          exact w8
    · rw [e5] at hne
      exact (hC p hp hne).gW hg hI.pt hI.lo hI.or hI.tk hp (hM p hp hne) rfl
    · rw [e5] at hne
      rw [s88_T (by decide)]
      exact hM p hp hne
    · have hp2 := hPq p hp
      rw [s88_8, s88_T (by decide)]
      split
      · rename_i e
        rw [e] at hp2 ⊢
        omega
      · exact hp2
end ZD3
