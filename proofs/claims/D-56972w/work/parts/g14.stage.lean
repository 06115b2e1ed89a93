/-! THE ACCOUNT: which orders can be promised or released behind a call -/
set_option maxRecDepth 100000
/-- stages stay, or fall back to new -/
def kD (z : Nat → Nat) (X Y : hS) : Prop := ∀ q : Nat, sT Y 8 7 q = sT X 8 7 q ∨ sT Y 8 7 q = (z 0 : Nat)
/-- made orders that aren't new -/
def sb (z : Nat → Nat) (X : hS) (o : Nat) : Bool := decide ((sT X 8 1 o).toNat % 2 = 0 ∧ sT X 8 7 o ≠ (z 0 : Nat))
section ZG14
variable {z : Nat → Nat} {k k2 o l e : Nat} {X Y S S2 T G A B : hS}
theorem kD.refl : kD z X X := fun _ => Or.inl rfl
theorem kD.trans (h : kD z X Y) (g : kD z Y S) : kD z X S := fun q => by
  rcases g q with a | a
  · rcases h q with b | b
    · exact Or.inl (a.trans b)
    · exact Or.inr (a.trans b)
  · exact Or.inr a
theorem kD.ff (h : ffr X Y) : kD z X Y := fun q => Or.inl (h.2.1 8 7 q (by decide))
theorem kD.sm (h : sameW X Y) : kD z X Y := fun q => Or.inl (h.2.2.1.2 7 q (by decide))
theorem kD.cq (h : ceq X Y 8) : kD z X Y := fun q => Or.inl (h.2.1 7 q)
theorem kD_fr : kD z X (fFr z X o) := fun q => by
  by_cases e : q = o
  · rw [e]; exact Or.inr fFr_87
  · exact Or.inl (fFr_sT (by omega) (by omega))
theorem kD_lose : ∀ n : Nat, kD z X (fLoseN z X n).1 := by
  intro n
  induction n with
  | zero => exact kD.refl
  | succ n ih =>
    have sF : fLoseN z X (n + 1) = fLoseStep z (fLoseN z X n) n := fLoseN_succ'
    unfold fLoseStep at sF
    cases e : fLoses z (fLoseN z X n).1 n with
    | false =>
      rw [e, if_neg (by decide)] at sF
      rw [sF]; exact ih
    | true =>
      rw [e, if_pos rfl] at sF
      rw [sF]
      exact ih.trans kD_fr
theorem kD.sb (h : kD z X Y) (h1 : sT Y 8 1 o = sT X 8 1 o) (hb : _root_.Jvm.Pilot.CFoundrymarkLaw_law_r2382_07130c.sb z Y o = true) : _root_.Jvm.Pilot.CFoundrymarkLaw_law_r2382_07130c.sb z X o = true := by
  obtain ⟨w1, w2⟩ := of_decide_eq_true hb
  refine decide_eq_true ⟨by rw [← h1]; exact w1, fun w => ?_⟩
  rcases h o with u | u
  · exact w2 (u.trans w)
  · exact w2 u
theorem kdAM {p q r t : Int} (h : pAM S S2 p q r t) : kD z S S2 := by
  rcases h with ⟨v, rfl⟩ | ⟨-, -, rfl⟩
  · exact .ff ffr.mt
  · exact (kD.cq (fAM_ceq (by decide) (by decide) (by decide))).trans (.ff mAM_ffr)
theorem kdAO {p q r t : Int} (h : pcAO S S2 p q r t) : kD z S S2 := by
  rcases h with ⟨v, rfl⟩ | ⟨-, rfl⟩
  · exact .ff ffr.mt
  · exact (kD.cq (fAO_ceq (by decide) (by decide))).trans (.ff cAO_ffr)
theorem kdSC {p x w : Int} (h : pSC S S2 p x w) : kD z S S2 := by
  rcases h with ⟨v, rfl⟩ | ⟨-, rfl⟩
  · exact .ff ffr.mt
  · refine (kD.sm (chartS_chF.same ?_)).trans (.ff chartS_chM.fr)
    show 2 + _ % 2 = 2 ∨ 2 + _ % 2 = 3
    omega
theorem kdAP {c : Bool} {f : Int} (h : pAP S S2 c f) : kD z S S2 := by
  rcases h with ⟨v, rfl⟩ | ⟨-, -, rfl⟩
  · exact .ff ffr.mt
  · exact (kD.cq (fAP_ceq (by decide) (by decide) (by decide) (by decide) (by decide))).trans (.ff mAP_ffr)
theorem kdAC {p q r t : Int} (h : pcAC S S2 p q r t) : kD z S S2 := by
  rcases h with ⟨v, rfl⟩ | ⟨-, rfl⟩
  · exact .ff ffr.mt
  · exact (kD.cq (fAC_ceq (by decide) (by decide))).trans (.ff cAC_ffr)
theorem kdRc {p q c s v : Int} (h : pRc z S S2 p q c s v) : kD z S S2 := by
  rcases h with ⟨v, rfl⟩ | ⟨-, is, rfl⟩
  · exact .ff ffr.mt
  · rw [fRecv_eq, mRecv_eq]
    generalize fIsR (fRl z S s.toNat) v = b
    have hf : ffr (fRefuse z (fL S p q c b) s.toNat s.toNat (fRl z S s.toNat) v) (mSupS z (mL (fRefuse z (fL S p q c b) s.toNat s.toNat (fRl z S s.toNat) v) p q c is) s.toNat is) := mL_ffr.trans mSupS_ffr
    exact ((kD.cq (fL_ceq (by decide))).trans (.cq (fRefuse_ceq (by decide)))).trans (.ff hf)
theorem kdHo {v : Int} {on : Bool} (hz : zInj z) (hRr : rR z S S) (hI : iAll z k S) (hMS : mShape S) (hB : mBox S) (h : pHo z S S2 v on) : kD z S S2 := by
  rcases h with ⟨v, rfl⟩ | ⟨-, rfl⟩
  · exact .ff ffr.mt
  · obtain ⟨-, -, -, -, -, -, -, -, hf, -⟩ := pairHold (q := v.toNat) (on := on) hz hRr hI hMS hB
    exact ((kD.sm (hl_same (i := v.toNat) (on := on))).trans (kD_lose (sn S 8))).trans (.ff hf)
theorem kdWd {v : Int} (h : pWd z S S2 v) : kD z S S2 := by
  rcases h with ⟨v, rfl⟩ | ⟨-, -, rfl⟩
  · exact .ff ffr.mt
  · exact kD_fr.trans (.ff ((ffr.mt (v := 0)).trans mFr_ffr))
theorem kdMe {v w : Int} (hz : zInj z) (hRr : rR z S S) (hI : iAll z k S) (hMS : mShape S) (hB : mBox S) (h : pMe z S S2 v w) : kD z S S2 := by
  rcases h with ⟨v, rfl⟩ | ⟨hv, -, p', rfl⟩
  · exact .ff ffr.mt
  · obtain ⟨q, hq, hq6⟩ := idx hv
    have eq : v.toNat = q := by omega
    rw [eq]
    obtain ⟨p, hp, hqp⟩ := (hI.lo q hq6).2.1
    have eL : fLp S q = fPc S p := by
      unfold fLp
      rw [hqp]; rfl
    have eMS : fMeasS S q w = fHl (fOutS S (pcl S p) (pix S p) w) q (fOut S (pcl S p) (pix S p) w || fh S q) := by
      unfold fMeasS fHl fMeasOut
      unfold pcl pix
      rw [eL]
    have hcl : pcl S p = 2 ∨ pcl S p = 3 := by unfold pcl; omega
    have h1 : kD z S (fMeasS S q w) := by
      rw [eMS]
      exact (kD.sm ((outS_chF (c := pcl S p) (j := pix S p) (v := w)).same hcl)).trans (kD.sm hl_same)
    refine (h1.trans (kD_lose (z := z) (sn S 8))).trans (.ff ?_)
    generalize (fLoseN z (fMeasS S q w) (sn S 8)).1 = T
    have o1 : ∀ U : hS, ffr T U → ffr T (mOutS U p' w) := fun U hU => hU.trans outS_chM.fr
    unfold mMeasS
    split
    · have hL : ∀ (V : hS) (n : Nat), ffr V (mLoseN V n).1 := by
        intro V n
        induction n with
        | zero => exact .refl
        | succ n ih =>
          rw [mLoseN_succ']
          unfold mLoseStep
          split
          · exact ih.trans mFr_ffr
          · exact ih
      exact ((o1 _ ffr.mt).set (by decide)).trans (hL _ _)
    · exact o1 _ ffr.mt
theorem kdSc {v n : Int} (h : psSc z S S2 v n) : kD z S S2 := fun q => Or.inl ((cnSc h).2 7 q (Or.inr rfl))
theorem kdOr {p qq o d : Int} (h : pOr z S S2 p qq o d) : kD z S S2 := by
  rcases h with ⟨v, rfl⟩ | ⟨-, rfl⟩
  · exact .ff ffr.mt
  · have hf : ffr (fOrderS z S p qq o d) (mOrderS (fOrderS z S p qq o d) p qq o d) := mO_ffr
    refine kD.trans (Y := fOrderS z S p qq o d) (fun q => ?_) (.ff hf)
    by_cases e : q = sn S 8
    · rw [e]; exact Or.inr (fO_new (j := 7) (by decide))
    · exact Or.inl (fO_old (by omega))
/-- advance: who isn't under way stays what he is -/
theorem sbAd {e : Nat} (hz : zInj z) (hI : iAll z k S) (hR : iRn z S) (h : pAd z S S2 e) (ho : o < sn S 8) (hb : sb z S2 o = true) : sb z S o = true := by
  rcases h with ⟨⟨v, rfl⟩, -⟩ | ⟨h1, -, -⟩
  · exact (kD.ff ffr.mt).sb (ffr.mt.2.1 8 1 o (by decide)) hb
  · obtain ⟨-, q2, q3⟩ := h1.low hz hR.2.2
    obtain ⟨w1, w2⟩ := of_decide_eq_true hb
    rw [q2] at w1
    refine decide_eq_true ⟨w1, fun w => w2 ?_⟩
    have hz0 := (hI.or o ho).2.2.2.2.2.2.2.2.2.2.2.2.2.2.1
    rw [q3 o (Or.inl w) (hz0 (Or.inl w)).2.1]
    exact w
/-- reserving changes no other order's stage -/
theorem ra_st (hI : iAll z k S) (ho : o < sn S 8) (hmd : (sT S 8 1 o).toNat % 2 = 0) (hst : sT S 8 7 o = (z 0 : Nat)) {q : Nat} (hq : q ≠ o) : sT (fRA z S o).1 8 7 q = sT S 8 7 q := by
  obtain ⟨p1, p2⟩ := hI.cp1 ho hmd
  have hem : sE S 26 (fOL S o) = [] := (hI.em o ho).1 hst
  by_cases hok : (fRA z S o).2.1 = true
  · obtain ⟨T, e, h, -⟩ := raG hem p1 p2 hok
    rw [e, sT_set, if_neg (by omega)]
    exact h.2.2.2.1 8 7 q (by decide) (by omega)
  · obtain ⟨T, e, h⟩ := raG0 (z := z) hem p1 p2 (by cases hh : (fRA z S o).2.1 with
      | true => exact absurd hh hok
      | false => rfl)
    rw [e, fTB_sT (by omega)]
    exact h.2.2.2.1 8 7 q (by decide) (by omega)
/-- promise: the order alone -/
theorem sbPr {v : Int} (hz : zInj z) (hRr : rR z S S) (hI : iAll z k S) (hMS : mShape S) (hB : mBox S) (h : pPr z S S2 v) : (∃ w : Int, S2 = mt S w) ∨ (cPr z S v = true ∧ v.toNat < sn S 8 ∧ (sT S 8 1 v.toNat).toNat % 2 = 0 ∧ ∀ q : Nat, q ≠ v.toNat → sT S2 8 7 q = sT S 8 7 q) := by
  rcases h with h | ⟨hcc, rfl⟩
  · exact Or.inl h
  · have hc := hcc
    unfold cPr at hc
    rw [Bool.and_eq_true, Bool.and_eq_true] at hc
    obtain ⟨o, ho, ho8⟩ := idx (of_decide_eq_true hc.1)
    have eo : v.toNat = o := by omega
    rw [eo] at hc ⊢
    have hmd : (sT S 8 1 o).toNat % 2 = 0 := of_decide_eq_true hc.2.1
    have hst : sT S 8 7 o = (z 0 : Nat) := of_decide_eq_true hc.2.2
    refine Or.inr ⟨hcc, ho8, hmd, fun q hq => ?_⟩
    have fm := (pairRA hz hRr hI hMS hB ho8 hst hmd).2.2.2.2.2.2.1.1
    have hR2 := hRr.frY hMS hB (fm.trans (mfr.mt (v := 0)))
    have hS2 := hMS.fr (fm.trans (mfr.mt (v := 0)))
    have hB2 := hB.fr (fm.trans (mfr.mt (v := 0)))
    have c7 := (pairRA (Y := mt (fRA z S o).1 0) hz hR2 hI hS2 hB2 ho8 hst hmd).2.2.2.2.2.2.1.2
    rw [c7.2.1 8 7 q (by decide), (ffr.mt (X := (fRA z S o).1) (v := 0)).2.1 8 7 q (by decide)]
    exact ra_st hI ho8 hmd hst hq
end ZG14
