/-! THE ROOM: calls that take nothing; promises taken back -/
set_option maxRecDepth 100000
/-- lists of what was taken: the same, or emptied -/
def lE (X Y : hS) : Prop := sn Y 8 = sn X 8 ∧ (∀ q : Nat, fOL Y q = fOL X q ∧ fDelL Y q = fDelL X q) ∧ (∀ i : Nat, sE Y 26 i = sE X 26 i ∨ sE Y 26 i = []) ∧ ∀ i : Nat, sE Y 27 i = sE X 27 i
section ZF2
variable {z : Nat → Nat} {k k2 o l : Nat} {X Y S S2 T : hS}
theorem fTl_gW (g : gW z X Y) (hI : iAll z k X) (ho : o < sn X 8) (e : sE Y 26 (fOL X o) = sE X 26 (fOL X o)) : fTl Y o = fTl X o := by
  unfold fTl
  rw [g.oL ho, e]
  have h5 := (hI.or o ho).2.2.2.2.2.1
  exact List.map_congr_left (fun t ht => by
    have := hI.tk.1 (fOL X o) (by unfold fOL; omega) t ht
    rw [g.2.1.2 0 t.toNat (by omega) (by decide), g.2.1.2 1 t.toNat (by omega) (by decide)])
theorem fDv_gW (g : gW z X Y) (hI : iAll z k X) (ho : o < sn X 8) (e : sE Y 27 (fDelL X o) = sE X 27 (fDelL X o)) : fDv Y o = fDv X o := by
  unfold fDv
  rw [g.dL ho, e]
  have h5 := (hI.or o ho).2.2.2.2.2.2.1
  exact List.map_congr_left (fun t ht => by
    have := hI.tk.2.1 (fDelL X o) (by unfold fDelL; omega) t ht
    rw [g.2.1.2 0 t.toNat (by omega) (by decide), g.2.1.2 1 t.toNat (by omega) (by decide)])
/-- the lists of all orders stay, no order comes -/
theorem qX (g : gW z S S2) (hI : iAll z k S) (hI2 : iAll z k2 S2) (n8 : sn T 8 = sn S 8) (e26 : ∀ i : Nat, i < sn S 26 → sE T 26 i = sE S 26 i) (e27 : ∀ i : Nat, i < sn S 27 → sE T 27 i = sE S 27 i) (hf : ffr T S2) : gX 0 S S2 := by
  refine lkS.quiet ⟨fun q hq _ => ⟨fTl_gW g hI hq ?_, fDv_gW g hI hq ?_⟩, fun q h1 h2 => ?_⟩ g hI hI2
  · have h5 := (hI.or q hq).2.2.2.2.2.1
    rw [hf.2.2 26 _ (by decide)]
    exact e26 _ (by unfold fOL; omega)
  · have h5 := (hI.or q hq).2.2.2.2.2.2.1
    rw [hf.2.2 27 _ (by decide)]
    exact e27 _ (by unfold fDelL; omega)
  · rw [hf.1 8 (by decide)] at h2
    omega
theorem qS (g : gW z S S2) (hI : iAll z k S) (hI2 : iAll z k2 S2) (sm : sameW S T) (hf : ffr T S2) : gX 0 S S2 := qX g hI hI2 sm.2.2.1.1 (fun i _ => sm.2.2.2.2.2.2.2 26 i (by decide)) (fun i _ => sm.2.2.2.2.2.2.2 27 i (by decide)) hf
theorem qMt {v : Int} (hI : iAll z k S) (hI2 : iAll z k2 (mt S v)) (hR : iRn z S) : gX 0 S (mt S v) := qX (gRn.mt hI hR).1 hI hI2 rfl (fun _ _ => rfl) (fun _ _ => rfl) ffr.mt
theorem xAM {p q r t : Int} (hI : iAll z k S) (hI2 : iAll z k2 S2) (hR : iRn z S) (h : pAM S S2 p q r t) : gX 0 S S2 := by
  have g := (stAM hI hI2 hR h).1
  rcases h with ⟨v, rfl⟩ | ⟨-, -, rfl⟩
  · exact qMt hI hI2 hR
  · exact qX g hI hI2 (fAM_ceq (by decide) (by decide) (by decide)).1 (fun i _ => (fAM_ceq (by decide) (by decide) (by decide)).2.2 i) (fun i _ => (fAM_ceq (by decide) (by decide) (by decide)).2.2 i) mAM_ffr
theorem xAO {p q r t : Int} (hI : iAll z k S) (hI2 : iAll z k2 S2) (hR : iRn z S) (h : pcAO S S2 p q r t) : gX 0 S S2 := by
  have g := (stAO hI hI2 hR h).1
  rcases h with ⟨v, rfl⟩ | ⟨-, rfl⟩
  · exact qMt hI hI2 hR
  · exact qX g hI hI2 (fAO_ceq (by decide) (by decide)).1 (fun i _ => (fAO_ceq (by decide) (by decide)).2.2 i) (fun i _ => (fAO_ceq (by decide) (by decide)).2.2 i) cAO_ffr
theorem xSC {p x w : Int} (hI : iAll z k S) (hI2 : iAll z k2 S2) (hR : iRn z S) (h : pSC S S2 p x w) : gX 0 S S2 := by
  have g := (stSC hI hI2 hR h).1
  rcases h with ⟨v, rfl⟩ | ⟨-, rfl⟩
  · exact qMt hI hI2 hR
  · refine qS g hI hI2 (chartS_chF.same ?_) chartS_chM.fr
    show 2 + _ % 2 = 2 ∨ 2 + _ % 2 = 3
    omega
theorem xAP {c : Bool} {f : Int} (hI : iAll z k S) (hI2 : iAll z k2 S2) (hR : iRn z S) (h : pAP S S2 c f) : gX 0 S S2 := by
  have g := (stAP hI hI2 hR h).1
  rcases h with ⟨v, rfl⟩ | ⟨-, -, rfl⟩
  · exact qMt hI hI2 hR
  · exact qX g hI hI2 (fAP_ceq (by decide) (by decide) (by decide) (by decide) (by decide)).1 (fun i _ => (fAP_ceq (by decide) (by decide) (by decide) (by decide) (by decide)).2.2 i) (fun i _ => (fAP_ceq (by decide) (by decide) (by decide) (by decide) (by decide)).2.2 i) mAP_ffr
theorem xAC {p q r t : Int} (hI : iAll z k S) (hI2 : iAll z k2 S2) (hR : iRn z S) (h : pcAC S S2 p q r t) : gX 0 S S2 := by
  have g := (stAC hI hI2 hR h).1
  rcases h with ⟨v, rfl⟩ | ⟨-, rfl⟩
  · exact qMt hI hI2 hR
  · exact qX g hI hI2 (fAC_ceq (by decide) (by decide)).1 (fun i _ => (fAC_ceq (by decide) (by decide)).2.2 i) (fun i _ => (fAC_ceq (by decide) (by decide)).2.2 i) cAC_ffr
theorem xSc {v n : Int} (hz : zInj z) (hI : iAll z k S) (hI2 : iAll z k2 S2) (hR : iRn z S) (h : psSc z S S2 v n) : gX 0 S S2 := by
  have g := (stSc hz hI hI2 hR h).1
  rcases h with ⟨v, rfl⟩ | ⟨-, -, rfl⟩
  · exact qMt hI hI2 hR
  · exact qX (T := sset S 8 8 v.toNat (sT S 8 8 v.toNat - n)) g hI hI2 rfl (fun _ _ => rfl) (fun _ _ => rfl) ((ffr.mt (v := 0)).set (by decide))
theorem xOr {p qq o d : Int} (hI : iAll z k S) (hI2 : iAll z k2 S2) (hR : iRn z S) (h : pOr z S S2 p qq o d) : gX 0 S S2 := by
  have g := (stOr hI hI2 hR h).1
  rcases h with ⟨v, rfl⟩ | ⟨-, rfl⟩
  · exact qMt hI hI2 hR
  · have hf : ffr (fOrderS z S p qq o d) (mOrderS (fOrderS z S p qq o d) p qq o d) := mO_ffr
    refine lkS.quiet ⟨fun q hq _ => ⟨fTl_gW g hI hq ?_, fDv_gW g hI hq ?_⟩, fun q h1 h2 => ?_⟩ g hI hI2
    · have h5 := (hI.or q hq).2.2.2.2.2.1
      rw [hf.2.2 26 _ (by decide), fO_26, if_neg (by unfold fOL; omega)]
    · have h5 := (hI.or q hq).2.2.2.2.2.2.1
      rw [hf.2.2 27 _ (by decide), fO_27, if_neg (by unfold fDelL; omega)]
    · rw [hf.1 8 (by decide), fO_n8] at h2
      have e : q = sn S 8 := by omega
      subst e
      constructor
      · unfold fTl fOL
        rw [hf.2.1 8 5 _ (by decide), hf.2.2 26 _ (by decide), fO_new (j := 5) (by decide)]
        show (sE _ 26 ((sn S 26 : Nat) : Int).toNat).map _ = []
        rw [Int.toNat_natCast, fO_26, if_pos rfl]
        rfl
      · unfold fDv fDelL
        rw [hf.2.1 8 6 _ (by decide), hf.2.2 27 _ (by decide), fO_new (j := 6) (by decide)]
        show (sE _ 27 ((sn S 27 : Nat) : Int).toNat).map _ = []
        rw [Int.toNat_natCast, fO_27, if_pos rfl]
        rfl
theorem xRc {p q c s v : Int} (hI : iAll z k S) (hI2 : iAll z k2 S2) (hR : iRn z S) (h : pRc z S S2 p q c s v) : gX 0 S S2 := by
  have g := (stRc hI hI2 hR h).1
  rcases h with ⟨v, rfl⟩ | ⟨-, is, rfl⟩
  · exact qMt hI hI2 hR
  · rw [fRecv_eq] at g hI2 ⊢
    rw [mRecv_eq] at g hI2 ⊢
    generalize fIsR (fRl z S s.toNat) v = b at *
    have hf : ffr (fRefuse z (fL S p q c b) s.toNat s.toNat (fRl z S s.toNat) v) (mSupS z (mL (fRefuse z (fL S p q c b) s.toNat s.toNat (fRl z S s.toNat) v) p q c is) s.toNat is) := mL_ffr.trans mSupS_ffr
    refine qX g hI hI2 ?_ (fun i hi => ?_) (fun i hi => ?_) hf
    · rw [(fRefuse_ceq (by decide)).1]
      exact (fL_ceq (by decide)).1
    · rw [(fRefuse_ceq (by decide)).2.2, fL_26, if_neg (by omega)]
    · rw [(fRefuse_ceq (by decide)).2.2]
      exact (fL_ceq (by decide)).2.2 i
/-! promises taken back -/
theorem lE.refl : lE X X := ⟨rfl, fun _ => ⟨rfl, rfl⟩, fun _ => Or.inl rfl, fun _ => rfl⟩
theorem lE.trans (h : lE X Y) (g : lE Y S) : lE X S := by
  obtain ⟨a1, a2, a3, a4⟩ := h
  obtain ⟨b1, b2, b3, b4⟩ := g
  refine ⟨b1.trans a1, fun q => ⟨(b2 q).1.trans (a2 q).1, (b2 q).2.trans (a2 q).2⟩, fun i => ?_, fun i => (b4 i).trans (a4 i)⟩
  rcases b3 i with w | w
  · rcases a3 i with u | u
    · exact Or.inl (w.trans u)
    · exact Or.inr (w.trans u)
  · exact Or.inr w
theorem lE.ff (h : ffr X Y) : lE X Y := ⟨h.1 8 (by decide), fun q => ⟨congrArg Int.toNat (h.2.1 8 5 q (by decide)), congrArg Int.toNat (h.2.1 8 6 q (by decide))⟩, fun i => Or.inl (h.2.2 26 i (by decide)), fun i => h.2.2 27 i (by decide)⟩
theorem lE.sm (h : sameW X Y) : lE X Y := ⟨h.2.2.1.1, fun q => ⟨congrArg Int.toNat (h.2.2.1.2 5 q (by decide)), congrArg Int.toNat (h.2.2.1.2 6 q (by decide))⟩, fun i => Or.inl (h.2.2.2.2.2.2.2 26 i (by decide)), fun i => h.2.2.2.2.2.2.2 27 i (by decide)⟩
theorem lE_fr : lE X (fFr z X o) := ⟨fFr_sn, fun q => ⟨congrArg Int.toNat (fFr_sT (by omega) (by omega)), congrArg Int.toNat (fFr_sT (by omega) (by omega))⟩, fun i => by
  rw [fFr_sE]
  split
  · exact Or.inr rfl
  · exact Or.inl rfl, fun i => by rw [fFr_sE, if_neg (by omega)]⟩
theorem lE_lose : ∀ n : Nat, lE X (fLoseN z X n).1 := by
  intro n
  induction n with
  | zero => exact lE.refl
  | succ n ih =>
    have sF : fLoseN z X (n + 1) = fLoseStep z (fLoseN z X n) n := fLoseN_succ'
    unfold fLoseStep at sF
    cases e : fLoses z (fLoseN z X n).1 n with
    | false =>
      rw [e, if_neg (by decide)] at sF
      rw [sF]; exact ih
    | true =>
      rw [e, if_pos rfl] at sF
      rw [sF]
      exact ih.trans lE_fr
theorem lE.toX (h : lE S S2) (g : gW z S S2) (hI : iAll z k S) : gX 1 S S2 := by
  obtain ⟨a1, a2, a3, a4⟩ := h
  refine lkK.toX ⟨fun o ho => ⟨?_, fDv_gW g hI ho (a4 _)⟩, fun o h1 h2 => by omega⟩ g hI
  rcases a3 (fOL S o) with w | w
  · exact Or.inl (fTl_gW g hI ho w)
  · right
    unfold fTl
    rw [(a2 o).1, w]
    rfl
theorem xHo {v : Int} {on : Bool} (hz : zInj z) (hRr : rR z S S) (hI : iAll z k S) (hMS : mShape S) (hB : mBox S) (hI2 : iAll z k2 S2) (hR : iRn z S) (h : pHo z S S2 v on) : gX 1 S S2 := by
  have g := (stHo hz hRr hI hMS hB hI2 hR h).1
  refine lE.toX ?_ g hI
  rcases h with ⟨v, rfl⟩ | ⟨-, rfl⟩
  · exact .ff ffr.mt
  · obtain ⟨-, -, -, -, -, -, -, -, hf, -⟩ := pairHold (q := v.toNat) (on := on) hz hRr hI hMS hB
    exact ((lE.sm (hl_same (i := v.toNat) (on := on))).trans (lE_lose (sn S 8))).trans (.ff hf)
theorem xWd {v : Int} (hz : zInj z) (hI : iAll z k S) (hI2 : iAll z k2 S2) (hR : iRn z S) (h : pWd z S S2 v) : gX 1 S S2 := by
  have g := (stWd hz hI hI2 hR h).1
  refine lE.toX ?_ g hI
  rcases h with ⟨v, rfl⟩ | ⟨-, -, rfl⟩
  · exact .ff ffr.mt
  · exact lE_fr.trans (.ff ((ffr.mt (v := 0)).trans mFr_ffr))
end ZF2
