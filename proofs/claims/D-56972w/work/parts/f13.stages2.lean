/-! THE ROOM: only a delivery delivers, call by call -/
set_option maxRecDepth 100000
section ZF13
variable {z : Nat → Nat} {k k2 o l : Nat} {X Y S S2 T G : hS}
theorem d5AM {p q r t : Int} (hz : zInj z) (hI : iAll z k S) (hI2 : iAll z k2 S2) (hR : iRn z S) (h : pAM S S2 p q r t) : d5 z S S2 := by
  have g := (stAM hI hI2 hR h).1
  refine kE.d5 hz ?_ (fun o ho => g.2.2.1.2 1 o ho (by decide))
  rcases h with ⟨v, rfl⟩ | ⟨-, -, rfl⟩
  · exact .ff ffr.mt
  · exact (kE.cq (fAM_ceq (by decide) (by decide) (by decide))).trans (.ff mAM_ffr)
theorem d5AO {p q r t : Int} (hz : zInj z) (hI : iAll z k S) (hI2 : iAll z k2 S2) (hR : iRn z S) (h : pcAO S S2 p q r t) : d5 z S S2 := by
  have g := (stAO hI hI2 hR h).1
  refine kE.d5 hz ?_ (fun o ho => g.2.2.1.2 1 o ho (by decide))
  rcases h with ⟨v, rfl⟩ | ⟨-, rfl⟩
  · exact .ff ffr.mt
  · exact (kE.cq (fAO_ceq (by decide) (by decide))).trans (.ff cAO_ffr)
theorem d5SC {p x w : Int} (hz : zInj z) (hI : iAll z k S) (hI2 : iAll z k2 S2) (hR : iRn z S) (h : pSC S S2 p x w) : d5 z S S2 := by
  have g := (stSC hI hI2 hR h).1
  refine kE.d5 hz ?_ (fun o ho => g.2.2.1.2 1 o ho (by decide))
  rcases h with ⟨v, rfl⟩ | ⟨-, rfl⟩
  · exact .ff ffr.mt
  · refine (kE.sm (chartS_chF.same ?_)).trans (.ff chartS_chM.fr)
    show 2 + _ % 2 = 2 ∨ 2 + _ % 2 = 3
    omega
theorem d5AP {c : Bool} {f : Int} (hz : zInj z) (hI : iAll z k S) (hI2 : iAll z k2 S2) (hR : iRn z S) (h : pAP S S2 c f) : d5 z S S2 := by
  have g := (stAP hI hI2 hR h).1
  refine kE.d5 hz ?_ (fun o ho => g.2.2.1.2 1 o ho (by decide))
  rcases h with ⟨v, rfl⟩ | ⟨-, -, rfl⟩
  · exact .ff ffr.mt
  · exact (kE.cq (fAP_ceq (by decide) (by decide) (by decide) (by decide) (by decide))).trans (.ff mAP_ffr)
theorem d5AC {p q r t : Int} (hz : zInj z) (hI : iAll z k S) (hI2 : iAll z k2 S2) (hR : iRn z S) (h : pcAC S S2 p q r t) : d5 z S S2 := by
  have g := (stAC hI hI2 hR h).1
  refine kE.d5 hz ?_ (fun o ho => g.2.2.1.2 1 o ho (by decide))
  rcases h with ⟨v, rfl⟩ | ⟨-, rfl⟩
  · exact .ff ffr.mt
  · exact (kE.cq (fAC_ceq (by decide) (by decide))).trans (.ff cAC_ffr)
theorem d5Rc {p q c s v : Int} (hz : zInj z) (hI : iAll z k S) (hI2 : iAll z k2 S2) (hR : iRn z S) (h : pRc z S S2 p q c s v) : d5 z S S2 := by
  have g := (stRc hI hI2 hR h).1
  refine kE.d5 hz ?_ (fun o ho => g.2.2.1.2 1 o ho (by decide))
  rcases h with ⟨v, rfl⟩ | ⟨-, is, rfl⟩
  · exact .ff ffr.mt
  · rw [fRecv_eq, mRecv_eq]
    generalize fIsR (fRl z S s.toNat) v = b
    have hf : ffr (fRefuse z (fL S p q c b) s.toNat s.toNat (fRl z S s.toNat) v) (mSupS z (mL (fRefuse z (fL S p q c b) s.toNat s.toNat (fRl z S s.toNat) v) p q c is) s.toNat is) := mL_ffr.trans mSupS_ffr
    exact ((kE.cq (fL_ceq (by decide))).trans (.cq (fRefuse_ceq (by decide)))).trans (.ff hf)
theorem d5Ho {v : Int} {on : Bool} (hz : zInj z) (hRr : rR z S S) (hI : iAll z k S) (hMS : mShape S) (hB : mBox S) (hI2 : iAll z k2 S2) (hR : iRn z S) (h : pHo z S S2 v on) : d5 z S S2 := by
  have g := (stHo hz hRr hI hMS hB hI2 hR h).1
  refine kE.d5 hz ?_ (fun o ho => g.2.2.1.2 1 o ho (by decide))
  rcases h with ⟨v, rfl⟩ | ⟨-, rfl⟩
  · exact .ff ffr.mt
  · obtain ⟨-, -, -, -, -, -, -, -, hf, -⟩ := pairHold (q := v.toNat) (on := on) hz hRr hI hMS hB
    exact ((kE.sm (hl_same (i := v.toNat) (on := on))).trans (kE_lose (sn S 8))).trans (.ff hf)
theorem d5Wd {v : Int} (hz : zInj z) (hI : iAll z k S) (hI2 : iAll z k2 S2) (hR : iRn z S) (h : pWd z S S2 v) : d5 z S S2 := by
  have g := (stWd hz hI hI2 hR h).1
  refine kE.d5 hz ?_ (fun o ho => g.2.2.1.2 1 o ho (by decide))
  rcases h with ⟨v, rfl⟩ | ⟨-, -, rfl⟩
  · exact .ff ffr.mt
  · exact kE_fr.trans (.ff ((ffr.mt (v := 0)).trans mFr_ffr))
theorem d5Pr {v : Int} (hz : zInj z) (hRr : rR z S S) (hI : iAll z k S) (hMS : mShape S) (hB : mBox S) (hI2 : iAll z k2 S2) (hR : iRn z S) (h : pPr z S S2 v) : d5 z S S2 := by
  have g := (stPr hz hRr hI hMS hB hI2 hR h).1
  refine kE.d5 hz ?_ (fun o ho => g.2.2.1.2 1 o ho (by decide))
  rcases h with ⟨v, rfl⟩ | ⟨hc, rfl⟩
  · exact .ff ffr.mt
  · unfold cPr at hc
    rw [Bool.and_eq_true, Bool.and_eq_true] at hc
    obtain ⟨o, ho, ho8⟩ := idx (of_decide_eq_true hc.1)
    have eo : v.toNat = o := by omega
    rw [eo] at hc ⊢
    have hmd : (sT S 8 1 o).toNat % 2 = 0 := of_decide_eq_true hc.2.1
    have hst : sT S 8 7 o = (z 0 : Nat) := of_decide_eq_true hc.2.2
    have fm := (pairRA hz hRr hI hMS hB ho8 hst hmd).2.2.2.2.2.2.1.1
    have hR2 := hRr.frY hMS hB (fm.trans (mfr.mt (v := 0)))
    have hS2 := hMS.fr (fm.trans (mfr.mt (v := 0)))
    have hB2 := hB.fr (fm.trans (mfr.mt (v := 0)))
    have c7 := (pairRA (Y := mt (fRA z S o).1 0) hz hR2 hI hS2 hB2 ho8 hst hmd).2.2.2.2.2.2.1.2
    exact (kE_ra hz hI ho8 hst).trans (.ff ((ffr.mt (X := (fRA z S o).1) (v := 0)).trans c7))
theorem d5Me {v w : Int} (hz : zInj z) (hRr : rR z S S) (hI : iAll z k S) (hMS : mShape S) (hB : mBox S) (hI2 : iAll z k2 S2) (hR : iRn z S) (h : pMe z S S2 v w) : d5 z S S2 := by
  have g := (stMe hz hRr hI hMS hB hI2 hR h).1
  refine kE.d5 hz ?_ (fun o ho => g.2.2.1.2 1 o ho (by decide))
  rcases h with ⟨v, rfl⟩ | ⟨hv, -, p', rfl⟩
  · exact .ff ffr.mt
  · obtain ⟨q, hq, hq6⟩ := idx hv
    have eq : v.toNat = q := by omega
    rw [eq]
    obtain ⟨p, hp, hqp⟩ := (hI.lo q hq6).2.1
    have eL : fLp S q = fPc S p := by
      unfold fLp
      rw [hqp]; rfl
    have eMS : fMeasS S q w = fHl (fOutS S (pcl S p) (pix S p) w) q (fOut S (pcl S p) (pix S p) w || fh S q) := by
      unfold fMeasS fHl fMeasOut
      unfold pcl pix
      rw [eL]
    have hcl : pcl S p = 2 ∨ pcl S p = 3 := by unfold pcl; omega
    have h1 : kE z S (fMeasS S q w) := by
      rw [eMS]
      exact (kE.sm ((outS_chF (c := pcl S p) (j := pix S p) (v := w)).same hcl)).trans (kE.sm hl_same)
    refine (h1.trans (kE_lose (z := z) (sn S 8))).trans (.ff ?_)
    generalize (fLoseN z (fMeasS S q w) (sn S 8)).1 = T
    have o1 : ∀ U : hS, ffr T U → ffr T (mOutS U p' w) := fun U hU => hU.trans outS_chM.fr
    unfold mMeasS
    split
    · have hL : ∀ (V : hS) (n : Nat), ffr V (mLoseN V n).1 := by
        intro V n
        induction n with
        | zero => exact .refl
        | succ n ih =>
          rw [mLoseN_succ']
          unfold mLoseStep
          split
          · exact ih.trans mFr_ffr
          · exact ih
      exact ((o1 _ ffr.mt).set (by decide)).trans (hL _ _)
    · exact o1 _ ffr.mt
theorem d5Sc {v n : Int} (hz : zInj z) (h : psSc z S S2 v n) : d5 z S S2 := by
  rcases h with ⟨v, rfl⟩ | ⟨-, -, rfl⟩
  · exact .ff ffr.mt
  · have hf : ffr (sset S 8 8 v.toNat (sT S 8 8 v.toNat - n)) (sset (mt (sset S 8 8 v.toNat (sT S 8 8 v.toNat - n)) 0) 15 8 v.toNat (sT S 8 8 v.toNat - n)) := (ffr.mt (v := 0)).set (by decide)
    refine d5.trans (Y := sset S 8 8 v.toNat (sT S 8 8 v.toNat - n)) (fun o ho h5 => ?_) (.ff hf) (fun o _ => hf.2.1 8 1 o (by decide))
    rw [sT_set, if_neg (by omega)] at h5
    exact ⟨ho, h5⟩
theorem d5Or {p qq o d : Int} (hz : zInj z) (h : pOr z S S2 p qq o d) : d5 z S S2 := by
  rcases h with ⟨v, rfl⟩ | ⟨-, rfl⟩
  · exact .ff ffr.mt
  · have hf : ffr (fOrderS z S p qq o d) (mOrderS (fOrderS z S p qq o d) p qq o d) := mO_ffr
    intro q hq h5
    rw [hf.1 8 (by decide), fO_n8] at hq
    rw [hf.2.1 8 7 _ (by decide)] at h5
    by_cases e : q = sn S 8
    · subst e
      rw [fO_new (j := 7) (by decide)] at h5
      have h5 : ((z 0 : Nat) : Int) = (z 5 : Nat) := h5
      have := hz 0 5 (by decide) (by decide) (by omega)
      omega
    · rw [fO_old (by omega)] at h5
      exact ⟨by omega, h5⟩
theorem d5Ad {e : Nat} (hz : zInj z) (h : pAd z S S2 e) : d5 z S S2 := by
  rcases h with ⟨⟨v, rfl⟩, -⟩ | ⟨-, h2, -⟩
  · exact .ff ffr.mt
  · exact h2.d5 hz
end ZF13
