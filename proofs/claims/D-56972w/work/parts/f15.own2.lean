/-! THE ROOM: an order's own lot bears its list, call by call -/
set_option maxRecDepth 100000
def kF (X Y : hS) : Prop := sn Y 8 = sn X 8 ∧ ∀ q : Nat, sT Y 8 13 q = sT X 8 13 q
section ZF15
variable {z : Nat → Nat} {k k2 o l : Nat} {X Y S S2 T G : hS}
theorem kF.i8 (h : kF X Y) (g : gW z X Y) (h8 : _root_.Jvm.Pilot.CFoundrymarkLaw_law_r2382_07130c.i8 X) : _root_.Jvm.Pilot.CFoundrymarkLaw_law_r2382_07130c.i8 Y := i8_of g (fun o ho _ => ⟨by rw [← h.1]; exact ho, h.2 o⟩) h8
theorem kF.refl : kF X X := ⟨rfl, fun _ => rfl⟩
theorem kF.trans (h : kF X Y) (g : kF Y S) : kF X S := ⟨g.1.trans h.1, fun q => (g.2 q).trans (h.2 q)⟩
theorem kF.ff (h : ffr X Y) : kF X Y := ⟨h.1 8 (by decide), fun q => h.2.1 8 13 q (by decide)⟩
theorem kF.sm (h : sameW X Y) : kF X Y := ⟨h.2.2.1.1, fun q => h.2.2.1.2 13 q (by decide)⟩
theorem kF.cq (h : ceq X Y 8) : kF X Y := ⟨h.1, fun q => h.2.1 13 q⟩
theorem kF_fr : kF X (fFr z X o) := ⟨fFr_sn, fun q => fFr_sT (by omega) (by omega)⟩
theorem kF_lose : ∀ n : Nat, kF X (fLoseN z X n).1 := by
  intro n
  induction n with
  | zero => exact kF.refl
  | succ n ih =>
    have sF : fLoseN z X (n + 1) = fLoseStep z (fLoseN z X n) n := fLoseN_succ'
    unfold fLoseStep at sF
    cases e : fLoses z (fLoseN z X n).1 n with
    | false =>
      rw [e, if_neg (by decide)] at sF
      rw [sF]; exact ih
    | true =>
      rw [e, if_pos rfl] at sF
      rw [sF]
      exact ih.trans kF_fr
theorem kF_ra (hz : zInj z) (hI : iAll z k S) (ho : o < sn S 8) (hst : sT S 8 7 o = (z 0 : Nat)) : kF S (fRA z S o).1 := by
  have hem : sE S 26 (fOL S o) = [] := (hI.em o ho).1 hst
  obtain ⟨q1, q2, -⟩ := rkH.list hz hI ho (Or.inl hst)
  have hG := (ranQ (S := S) (o := o) (hd := hldF S) (fun T hT l hl => hT.held hI.lo hI.tk hI.chlt (fun l hl => q2 l hl) hl) hem _ (Nat.le_refl _)).1
  obtain ⟨a1, a2, a3, a4, a5, -, -⟩ := hG
  unfold fRA
  by_cases hok : (fRAN S o (fComps S o).length).2.1 = true
  · rw [if_pos hok]
    refine ⟨a1 8 (by decide), fun q => ?_⟩
    show sT (sset _ 8 7 o (z 1 : Nat)) 8 13 q = _
    rw [sT_set, if_neg (by omega)]
    exact a4 8 13 q (by decide) (by omega)
  · rw [if_neg hok]
    refine ⟨?_, fun q => ?_⟩
    · show sn (fTakeBack _ o) 8 = _
      rw [fTB_sn]; exact a1 8 (by decide)
    · show sT (fTakeBack _ o) 8 13 q = _
      rw [fTB_sT (by omega)]; exact a4 8 13 q (by decide) (by omega)
theorem kF_relT (hz : zInj z) (hI : iAll z k S) (ho : o < sn S 8) : kF S (fRelT z S o).1 := by
  unfold fRelT
  split
  · rename_i h
    exact kF_ra hz hI ho (of_decide_eq_true h)
  · exact kF.refl
theorem i8AM {p q r t : Int} (hz : zInj z) (hI : iAll z k S) (hI2 : iAll z k2 S2) (hR : iRn z S) (h : pAM S S2 p q r t) (h8 : i8 S) : i8 S2 := by
  have g := (stAM hI hI2 hR h).1
  refine kF.i8 ?_ g h8
  rcases h with ⟨v, rfl⟩ | ⟨-, -, rfl⟩
  · exact .ff ffr.mt
  · exact (kF.cq (fAM_ceq (by decide) (by decide) (by decide))).trans (.ff mAM_ffr)
theorem i8AO {p q r t : Int} (hz : zInj z) (hI : iAll z k S) (hI2 : iAll z k2 S2) (hR : iRn z S) (h : pcAO S S2 p q r t) (h8 : i8 S) : i8 S2 := by
  have g := (stAO hI hI2 hR h).1
  refine kF.i8 ?_ g h8
  rcases h with ⟨v, rfl⟩ | ⟨-, rfl⟩
  · exact .ff ffr.mt
  · exact (kF.cq (fAO_ceq (by decide) (by decide))).trans (.ff cAO_ffr)
theorem i8SC {p x w : Int} (hz : zInj z) (hI : iAll z k S) (hI2 : iAll z k2 S2) (hR : iRn z S) (h : pSC S S2 p x w) (h8 : i8 S) : i8 S2 := by
  have g := (stSC hI hI2 hR h).1
  refine kF.i8 ?_ g h8
  rcases h with ⟨v, rfl⟩ | ⟨-, rfl⟩
  · exact .ff ffr.mt
  · refine (kF.sm (chartS_chF.same ?_)).trans (.ff chartS_chM.fr)
    show 2 + _ % 2 = 2 ∨ 2 + _ % 2 = 3
    omega
theorem i8AP {c : Bool} {f : Int} (hz : zInj z) (hI : iAll z k S) (hI2 : iAll z k2 S2) (hR : iRn z S) (h : pAP S S2 c f) (h8 : i8 S) : i8 S2 := by
  have g := (stAP hI hI2 hR h).1
  refine kF.i8 ?_ g h8
  rcases h with ⟨v, rfl⟩ | ⟨-, -, rfl⟩
  · exact .ff ffr.mt
  · exact (kF.cq (fAP_ceq (by decide) (by decide) (by decide) (by decide) (by decide))).trans (.ff mAP_ffr)
theorem i8AC {p q r t : Int} (hz : zInj z) (hI : iAll z k S) (hI2 : iAll z k2 S2) (hR : iRn z S) (h : pcAC S S2 p q r t) (h8 : i8 S) : i8 S2 := by
  have g := (stAC hI hI2 hR h).1
  refine kF.i8 ?_ g h8
  rcases h with ⟨v, rfl⟩ | ⟨-, rfl⟩
  · exact .ff ffr.mt
  · exact (kF.cq (fAC_ceq (by decide) (by decide))).trans (.ff cAC_ffr)
theorem i8Rc {p q c s v : Int} (hz : zInj z) (hI : iAll z k S) (hI2 : iAll z k2 S2) (hR : iRn z S) (h : pRc z S S2 p q c s v) (h8 : i8 S) : i8 S2 := by
  have g := (stRc hI hI2 hR h).1
  refine kF.i8 ?_ g h8
  rcases h with ⟨v, rfl⟩ | ⟨-, is, rfl⟩
  · exact .ff ffr.mt
  · rw [fRecv_eq, mRecv_eq]
    generalize fIsR (fRl z S s.toNat) v = b
    have hf : ffr (fRefuse z (fL S p q c b) s.toNat s.toNat (fRl z S s.toNat) v) (mSupS z (mL (fRefuse z (fL S p q c b) s.toNat s.toNat (fRl z S s.toNat) v) p q c is) s.toNat is) := mL_ffr.trans mSupS_ffr
    exact ((kF.cq (fL_ceq (by decide))).trans (.cq (fRefuse_ceq (by decide)))).trans (.ff hf)
theorem i8Ho {v : Int} {on : Bool} (hz : zInj z) (hRr : rR z S S) (hI : iAll z k S) (hMS : mShape S) (hB : mBox S) (hI2 : iAll z k2 S2) (hR : iRn z S) (h : pHo z S S2 v on) (h8 : i8 S) : i8 S2 := by
  have g := (stHo hz hRr hI hMS hB hI2 hR h).1
  refine kF.i8 ?_ g h8
  rcases h with ⟨v, rfl⟩ | ⟨-, rfl⟩
  · exact .ff ffr.mt
  · obtain ⟨-, -, -, -, -, -, -, -, hf, -⟩ := pairHold (q := v.toNat) (on := on) hz hRr hI hMS hB
    exact ((kF.sm (hl_same (i := v.toNat) (on := on))).trans (kF_lose (z := z) (sn S 8))).trans (.ff hf)
theorem i8Wd {v : Int} (hz : zInj z) (hI : iAll z k S) (hI2 : iAll z k2 S2) (hR : iRn z S) (h : pWd z S S2 v) (h8 : i8 S) : i8 S2 := by
  have g := (stWd hz hI hI2 hR h).1
  refine kF.i8 ?_ g h8
  rcases h with ⟨v, rfl⟩ | ⟨-, -, rfl⟩
  · exact .ff ffr.mt
  · exact kF_fr.trans (.ff ((ffr.mt (v := 0)).trans mFr_ffr))
theorem i8Pr {v : Int} (hz : zInj z) (hRr : rR z S S) (hI : iAll z k S) (hMS : mShape S) (hB : mBox S) (hI2 : iAll z k2 S2) (hR : iRn z S) (h : pPr z S S2 v) (h8 : i8 S) : i8 S2 := by
  have g := (stPr hz hRr hI hMS hB hI2 hR h).1
  refine kF.i8 ?_ g h8
  rcases h with ⟨v, rfl⟩ | ⟨hc, rfl⟩
  · exact .ff ffr.mt
  · unfold cPr at hc
    rw [Bool.and_eq_true, Bool.and_eq_true] at hc
    obtain ⟨o, ho, ho8⟩ := idx (of_decide_eq_true hc.1)
    have eo : v.toNat = o := by omega
    rw [eo] at hc ⊢
    have hmd : (sT S 8 1 o).toNat % 2 = 0 := of_decide_eq_true hc.2.1
    have hst : sT S 8 7 o = (z 0 : Nat) := of_decide_eq_true hc.2.2
    have fm := (pairRA hz hRr hI hMS hB ho8 hst hmd).2.2.2.2.2.2.1.1
    have hR2 := hRr.frY hMS hB (fm.trans (mfr.mt (v := 0)))
    have hS2 := hMS.fr (fm.trans (mfr.mt (v := 0)))
    have hB2 := hB.fr (fm.trans (mfr.mt (v := 0)))
    have c7 := (pairRA (Y := mt (fRA z S o).1 0) hz hR2 hI hS2 hB2 ho8 hst hmd).2.2.2.2.2.2.1.2
    exact (kF_ra hz hI ho8 hst).trans (.ff ((ffr.mt (X := (fRA z S o).1) (v := 0)).trans c7))
theorem i8Me {v w : Int} (hz : zInj z) (hRr : rR z S S) (hI : iAll z k S) (hMS : mShape S) (hB : mBox S) (hI2 : iAll z k2 S2) (hR : iRn z S) (h : pMe z S S2 v w) (h8 : i8 S) : i8 S2 := by
  have g := (stMe hz hRr hI hMS hB hI2 hR h).1
  refine kF.i8 ?_ g h8
  rcases h with ⟨v, rfl⟩ | ⟨hv, -, p', rfl⟩
  · exact .ff ffr.mt
  · obtain ⟨q, hq, hq6⟩ := idx hv
    have eq : v.toNat = q := by omega
    rw [eq]
    obtain ⟨p, hp, hqp⟩ := (hI.lo q hq6).2.1
    have eL : fLp S q = fPc S p := by
      unfold fLp
      rw [hqp]; rfl
    have eMS : fMeasS S q w = fHl (fOutS S (pcl S p) (pix S p) w) q (fOut S (pcl S p) (pix S p) w || fh S q) := by
      unfold fMeasS fHl fMeasOut
      unfold pcl pix
      rw [eL]
    have hcl : pcl S p = 2 ∨ pcl S p = 3 := by unfold pcl; omega
    have h1 : kF S (fMeasS S q w) := by
      rw [eMS]
      exact (kF.sm ((outS_chF (c := pcl S p) (j := pix S p) (v := w)).same hcl)).trans (kF.sm hl_same)
    refine (h1.trans (kF_lose (z := z) (sn S 8))).trans (.ff ?_)
    generalize (fLoseN z (fMeasS S q w) (sn S 8)).1 = T
    have o1 : ∀ U : hS, ffr T U → ffr T (mOutS U p' w) := fun U hU => hU.trans outS_chM.fr
    unfold mMeasS
    split
    · have hL : ∀ (V : hS) (n : Nat), ffr V (mLoseN V n).1 := by
        intro V n
        induction n with
        | zero => exact .refl
        | succ n ih =>
          rw [mLoseN_succ']
          unfold mLoseStep
          split
          · exact ih.trans mFr_ffr
          · exact ih
      exact ((o1 _ ffr.mt).set (by decide)).trans (hL _ _)
    · exact o1 _ ffr.mt
theorem i8Sc {v n : Int} (hz : zInj z) (hI : iAll z k S) (hI2 : iAll z k2 S2) (hR : iRn z S) (h : psSc z S S2 v n) (h8 : i8 S) : i8 S2 := by
  have g := (stSc hz hI hI2 hR h).1
  refine kF.i8 ?_ g h8
  rcases h with ⟨v, rfl⟩ | ⟨-, -, rfl⟩
  · exact .ff ffr.mt
  · exact (show kF S (sset S 8 8 v.toNat (sT S 8 8 v.toNat - n)) from ⟨rfl, fun q => by rw [sT_set, if_neg (by omega)]⟩).trans (.ff ((ffr.mt (v := 0)).set (by decide)))
theorem i8Or {p qq o d : Int} (hI : iAll z k S) (hI2 : iAll z k2 S2) (hR : iRn z S) (h : pOr z S S2 p qq o d) (h8 : i8 S) : i8 S2 := by
  have g := (stOr hI hI2 hR h).1
  rcases h with ⟨v, rfl⟩ | ⟨-, rfl⟩
  · exact kF.i8 (.ff ffr.mt) g h8
  · have hf : ffr (fOrderS z S p qq o d) (mOrderS (fOrderS z S p qq o d) p qq o d) := mO_ffr
    refine i8_of g (fun q hq h0 => ?_) h8
    rw [hf.1 8 (by decide), fO_n8] at hq
    rw [hf.2.1 8 13 _ (by decide)] at h0 ⊢
    by_cases e : q = sn S 8
    · subst e
      rw [fO_new (j := 13) (by decide)] at h0
      have h0 : (0 : Int) ≤ -1 := h0
      omega
    · rw [fO_old (by omega)]
      exact ⟨by omega, rfl⟩
theorem i8Ad {e : Nat} (hR : iRn z S) (h : pAd z S S2 e) (h8 : i8 S) : i8 S2 := by
  rcases h with ⟨⟨v, rfl⟩, -⟩ | ⟨h1, -, -⟩
  · exact h8
  · exact (h1.own hR.2.2 h8).1
end ZF15
