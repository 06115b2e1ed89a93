/-! THE ROOM: while nothing was put on hold, no made lot is held: the other calls -/
set_option maxRecDepth 100000
section ZF10
variable {z : Nat → Nat} {k k2 o l : Nat} {X Y S S2 T G : hS}
theorem hk_go : hkR X (fGoOn z X o) := by
  unfold fGoOn
  split
  · rw [fFi_def]
    split
    · refine ⟨by rw [fB_n6]; omega, fun l hl => fB_6 (by omega), fun l a b _ => ?_⟩
      rw [fB_n6] at b
      have e : l = sn X 6 := by omega
      subst e
      exact fB_6n (j := 7) (by decide)
    · exact hkR.cq (fA_c (by decide))
  · exact hkR.cq ((ceq.refl.set (by decide)).ssE (by decide))
theorem q7Rc {p q c s v : Int} (hI : iAll z k S) (hI2 : iAll z k2 S2) (hR : iRn z S) (h : pRc z S S2 p q c s v) (h7 : i7 S) : i7 S2 := by
  have g := (stRc hI hI2 hR h).1
  rcases h with ⟨v, rfl⟩ | ⟨hc, is, rfl⟩
  · exact h7.ff g hI ffr.mt
  · rw [fRecv_eq] at g hI2 ⊢
    rw [mRecv_eq] at g hI2 ⊢
    generalize fIsR (fRl z S s.toNat) v = b at *
    have hodd : fPc S p % 2 = 1 := by
      unfold fRecvCode at hc
      split at hc
      · exact absurd hc (by decide)
      · split at hc
        · exact absurd hc (by decide)
        · rename_i w
          exact Decidable.of_not_not w
    have hf : ffr (fRefuse z (fL S p q c b) s.toNat s.toNat (fRl z S s.toNat) v) (mSupS z (mL (fRefuse z (fL S p q c b) s.toNat s.toNat (fRl z S s.toNat) v) p q c is) s.toNat is) := mL_ffr.trans mSupS_ffr
    have h1 : hkR S (fL S p q c b) := ⟨by rw [fL_n6]; omega, fun l hl => fL_old (by omega), fun l a b2 hm => by
      rw [fL_n6] at b2
      have e : l = sn S 6 := by omega
      subst e
      rw [fL_new (j := 1) (by decide)] at hm
      have hm : ((fPc S p : Nat) : Int).toNat % 2 = 0 := hm
      rw [Int.toNat_natCast] at hm
      omega⟩
    have c6 : ceq (fL S p q c b) (fRefuse z (fL S p q c b) s.toNat s.toNat (fRl z S s.toNat) v) 6 := fRefuse_ceq (by decide)
    have h2 := (h1.trans (hkR.cq c6) (fun l _ => c6.2.1 1 l)).trans (.ff hf) (fun l _ => hf.2.1 6 1 l (by decide))
    refine h7.q g h2 hI (fun o ho => fTl_gW g hI ho ?_) (fun o a b2 => ?_)
    · have h5 := (hI.or o ho).2.2.2.2.2.1
      rw [hf.2.2 26 _ (by decide), (fRefuse_ceq (by decide)).2.2, fL_26, if_neg (by unfold fOL; omega)]
    · rw [hf.1 8 (by decide), (fRefuse_ceq (by decide)).1, (fL_ceq (by decide)).1] at b2
      omega
theorem q7ra (hz : zInj z) (hI : iAll z k S) (hR : iRn z S) (ho : o < sn S 8) (hmd : (sT S 8 1 o).toNat % 2 = 0) (hst : sT S 8 7 o = (z 0 : Nat)) (h7 : i7 S) : i7 (fRA z S o).1 := by
  have g := (raW hz hI hR ho hmd hst).1
  have hem : sE S 26 (fOL S o) = [] := (hI.em o ho).1 hst
  obtain ⟨q1, q2, -⟩ := rkH.list hz hI ho (Or.inl hst)
  have hQ := raQ hI (fun l hl => q2 l hl) hem
  have hG := (ranQ (S := S) (o := o) (hd := hldF S) (fun T hT l hl => hT.held hI.lo hI.tk hI.chlt (fun l hl => q2 l hl) hl) hem _ (Nat.le_refl _)).1
  by_cases hok : (fRAN S o (fComps S o).length).2.1 = true
  · have e : (fRA z S o).1 = sset (fRAN S o (fComps S o).length).1 8 7 o (z 1 : Nat) := by
      unfold fRA
      rw [if_pos hok]
    rw [e] at g ⊢
    generalize (fRAN S o (fComps S o).length).1 = T at *
    obtain ⟨a1, a2, a3, a4, a5, -, -⟩ := hG
    have eT : fTl (sset T 8 7 o (z 1 : Nat)) o = tlL T (fOL S o) := by
      unfold fTl tlL
      rw [g.oL ho]
      exact List.map_congr_left (fun t _ => by rw [sT_set, if_neg (by omega), sT_set, if_neg (by omega)])
    have hk : hkR S (sset T 8 7 o (z 1 : Nat)) := ⟨Nat.le_of_eq (a1 6 (by decide)).symm, fun l _ => by rw [sT_set, if_neg (by omega)]; exact a4 6 7 l (by decide) (by omega), fun l a b => absurd b (by show ¬ l < sn T 6; rw [a1 6 (by decide)]; omega)⟩
    refine i7_of g hk hI (fun q hq en he => ?_) h7
    have hq : q < sn T 8 := hq
    rw [a1 8 (by decide)] at hq
    by_cases hqo : q = o
    · subst hqo
      rw [eT] at he
      obtain ⟨l1, b1, b2, b3, -⟩ := hQ en he
      have : en.1.toNat = l1 := by omega
      rw [this]
      exact Or.inr ⟨b2, b3⟩
    · rw [fTl_gW g hI hq (a3 26 _ (by decide) (fun w => q1 q hq hqo w.2))] at he
      exact Or.inl ⟨hq, he⟩
  · have e : (fRA z S o).1 = fTakeBack (fRAN S o (fComps S o).length).1 o := by
      unfold fRA
      rw [if_neg hok]
    rw [e] at g ⊢
    generalize (fRAN S o (fComps S o).length).1 = T at *
    obtain ⟨a1, a2, a3, a4, a5, -, -⟩ := hG
    have eTo : fOL T o = fOL S o := congrArg Int.toNat (a4 8 5 o (by decide) (by omega))
    have hk : hkR S (fTakeBack T o) := ⟨by rw [fTB_sn]; exact Nat.le_of_eq (a1 6 (by decide)).symm, fun l _ => by rw [fTB_sT (by omega)]; exact a4 6 7 l (by decide) (by omega), fun l a b => absurd b (by rw [fTB_sn, a1 6 (by decide)]; omega)⟩
    refine i7_of g hk hI (fun q hq en he => ?_) h7
    rw [fTB_sn, a1 8 (by decide)] at hq
    by_cases hqo : q = o
    · subst hqo
      have : fTl (fTakeBack T q) q = [] := by
        unfold fTl
        rw [g.oL hq, fTB_sE, if_pos ⟨rfl, eTo.symm⟩]
        rfl
      rw [this] at he
      exact absurd he List.not_mem_nil
    · rw [fTl_gW g hI hq (by
        rw [fTB_sE, if_neg (by rw [eTo]; exact fun w => q1 q hq hqo w.2)]
        exact a3 26 _ (by decide) (fun w => q1 q hq hqo w.2))] at he
      exact Or.inl ⟨hq, he⟩
theorem q7Pr {v : Int} (hz : zInj z) (hRr : rR z S S) (hI : iAll z k S) (hMS : mShape S) (hB : mBox S) (hI2 : iAll z k2 S2) (hR : iRn z S) (h : pPr z S S2 v) (h7 : i7 S) : i7 S2 := by
  have g := (stPr hz hRr hI hMS hB hI2 hR h).1
  rcases h with ⟨v, rfl⟩ | ⟨hc, rfl⟩
  · exact h7.ff g hI ffr.mt
  · unfold cPr at hc
    rw [Bool.and_eq_true, Bool.and_eq_true] at hc
    obtain ⟨o, ho, ho8⟩ := idx (of_decide_eq_true hc.1)
    have eo : v.toNat = o := by omega
    rw [eo] at hc hI2 ⊢
    have hmd : (sT S 8 1 o).toNat % 2 = 0 := of_decide_eq_true hc.2.1
    have hst : sT S 8 7 o = (z 0 : Nat) := of_decide_eq_true hc.2.2
    have fm := (pairRA hz hRr hI hMS hB ho8 hst hmd).2.2.2.2.2.2.1.1
    have hR2 := hRr.frY hMS hB (fm.trans (mfr.mt (v := 0)))
    have hS2 := hMS.fr (fm.trans (mfr.mt (v := 0)))
    have hB2 := hB.fr (fm.trans (mfr.mt (v := 0)))
    have c7 := (pairRA (Y := mt (fRA z S o).1 0) hz hR2 hI hS2 hB2 ho8 hst hmd).2.2.2.2.2.2.1.2
    have hf := (ffr.mt (X := (fRA z S o).1) (v := 0)).trans c7
    exact (q7ra hz hI hR ho8 hmd hst h7).ff (ffr.sameW hf).gW (hI2.fr hf.symm) hf
theorem q7relT (hz : zInj z) (hI : iAll z k S) (hR : iRn z S) (ho : o < sn S 8) (hmd : (sT S 8 1 o).toNat % 2 = 0) (h7 : i7 S) : i7 (fRelT z S o).1 := by
  unfold fRelT
  split
  · rename_i h
    exact q7ra hz hI hR ho hmd (of_decide_eq_true h) h7
  · exact h7
theorem q7Rl {v : Int} (hz : zInj z) (hRr : rR z S S) (hI : iAll z k S) (hMS : mShape S) (hB : mBox S) (hI2 : iAll z k2 S2) (hR : iRn z S) (hk : k ≤ 1000) (h : pRl z S S2 v) (h7 : i7 S) : i7 S2 := by
  rcases h with ⟨v, rfl⟩ | ⟨hc, hok, h⟩ | ⟨hc, hok, h⟩
  · exact h7.ff (gRn.mt hI hR).1 hI ffr.mt
  · unfold cRl at hc
    rw [Bool.and_eq_true, Bool.and_eq_true] at hc
    obtain ⟨o, ho, ho8⟩ := idx (of_decide_eq_true hc.1)
    have eo : v.toNat = o := by omega
    rw [eo] at hc hok h
    have hmd : (sT S 8 1 o).toNat % 2 = 0 := of_decide_eq_true hc.2.1
    have hah := hc.2.2
    have hP := pairRelT hz hRr hI hR.1.1 hMS hB ho8 hah hmd
    have t6 := hP.1.2.2.2.2.2.1
    have hIT := hP.1.2.1
    have hR1 := hRr.frY hMS hB t6
    have u7 := (pairRelT hz hR1 hI hR.1.1 (hMS.fr t6) (hB.fr t6) ho8 hah hmd).1.2.2.2.2.2.2.1
    rw [← h] at u7
    exact (q7relT hz hI hR ho8 hmd h7).ff (ffr.sameW u7).gW hIT u7
  · unfold cRl at hc
    rw [Bool.and_eq_true, Bool.and_eq_true] at hc
    obtain ⟨o, ho, ho8⟩ := idx (of_decide_eq_true hc.1)
    have eo : v.toNat = o := by omega
    rw [eo] at hc hok h
    have hmd : (sT S 8 1 o).toNat % 2 = 0 := of_decide_eq_true hc.2.1
    have hah := hc.2.2
    have w6 := (pairRel hz hRr hI hR.1.1 hMS hB ho8 hah hmd hk hok).2.1.1
    have hR1 := hRr.frY hMS hB w6
    have v7 := (pairRel hz hR1 hI hR.1.1 (hMS.fr w6) (hB.fr w6) ho8 hah hmd hk hok).2.1.2.1
    unfold sRl at h
    rw [← h] at v7
    have gT := relTW hz hI hR ho8 hmd
    have h7T := q7relT hz hI hR ho8 hmd h7
    obtain ⟨⟨t1, t2, t3, t4, t5, t6, t7, t8, t9, t10, t11, t12⟩, -, -, tst⟩ := pairRelT hz hRr hI hR.1.1 hMS hB ho8 hah hmd
    have hst := tst hok
    clear h
    generalize (fRelT z S o).1 = T at *
    generalize (mRelT S o).1 = U at *
    have ho' : o < sn T 8 := by rw [t11]; exact ho8
    obtain ⟨⟨g1, g2, g3, g4, g5, g6, g7, g8, g9, g10, g11, g12, g13⟩, -, -⟩ := pairRelP hz t1 t2 t3 t4 t5 ho' hst (by rw [t12]; exact hmd) hk
    have gG := relGW hz t2 gT.2 ho' hst (by rw [t12]; exact hmd) g2 g12
    have lG : lQ T (fGoOn z (fRelQ (fRelU T o) o) o) := (show lQ T (fRelQ (fRelU T o) o) from ⟨fRel_sn, fun i => ⟨fRel_sE, fRel_sE⟩⟩).trans lQ_go
    have kQ : hkR T (fRelQ (fRelU T o) o) := ⟨Nat.le_of_eq (fRel_sn).symm, fun l _ => by
      unfold fRelQ
      rw [sT_set, if_neg (by omega)]
      exact fRel_sT (by omega) (by omega) (by omega), fun l a b => absurd b (by
      have e : sn (fRelQ (fRelU T o) o) 6 = sn T 6 := fRel_sn
      rw [e]; omega)⟩
    have kG : hkR T (fGoOn z (fRelQ (fRelU T o) o) o) := by
      refine kQ.trans hk_go (fun l hl => ?_)
      have e : sn (fRelQ (fRelU T o) o) 6 = sn T 6 := fRel_sn
      rw [e] at hl
      rw [gG.1.1.2 1 l hl (by decide)]
      unfold fRelQ
      rw [sT_set, if_neg (by omega)]
      exact (fRel_sT (by omega) (by omega) (by omega)).symm
    have h7G := h7T.list gG.1 kG t2 lG
    have hcst := g2.co.2.2.2.2.2
    unfold fRelZ at v7
    generalize fGoOn z (fRelQ (fRelU T o) o) o = G at *
    generalize mGoOn (mRelQ (mRelU U o) o) o = M at *
    obtain ⟨⟨b1, b2, b3, b4, b5, b6, b7, b8, b9, b10, b11, b12, b13, b14⟩, -⟩ := pairBegT hz g1 (g2.mono (Nat.le_succ _)) g3 g4 (by push_cast; omega)
    have gZ := jobsW hz b12 b13 g2 b2 gG.2
    exact (h7G.list gZ.1 (b12.hk gG.2.2.2).1 g2 (b12.lQ gG.2.2.2)).ff (ffr.sameW v7).gW b2 v7
theorem q7Dl {v : Int} (hz : zInj z) (hRr : rR z S S) (hI : iAll z k S) (hMS : mShape S) (hB : mBox S) (hI2 : iAll z k2 S2) (hR : iRn z S) (h : pDl z S S2 v) (h7 : i7 S) : i7 S2 := by
  have g := (stDl hz hRr hI hMS hB hI2 hR h).1
  rcases h with ⟨v, rfl⟩ | ⟨hc, -, h⟩ | ⟨hc, -, h⟩
  · exact h7.ff g hI ffr.mt
  · unfold cDl at hc
    rw [Bool.and_eq_true] at hc
    obtain ⟨o, ho, ho8⟩ := idx (of_decide_eq_true hc.1)
    have eo : v.toNat = o := by omega
    rw [eo] at hc h
    have pG : plG S (fDlT S o).1 := (dlG hI ho8 (sn S 6) (Nat.le_refl _)).1
    have hRT := hRr.frY hMS hB (pG.mfr.trans (mfr.mt (v := 0)))
    have hf := (ffr.mt (X := (fDlT S o).1) (v := 0)).trans (srcI hRT hI ho8)
    rw [← h] at hf
    refine h7.q g ((hkR.cq (pG.ceq (by decide))).trans (.ff hf) (fun l _ => hf.2.1 6 1 l (by decide))) hI (fun q hq => fTl_gW g hI hq ?_) (fun q a b => ?_)
    · rw [hf.2.2 26 _ (by decide)]
      exact (pG.ceq (c := 26) (by decide)).2.2 _
    · rw [hf.1 8 (by decide), (pG.ceq (c := 8) (by decide)).1] at b
      omega
  · unfold cDl at hc
    rw [Bool.and_eq_true] at hc
    obtain ⟨o, ho, ho8⟩ := idx (of_decide_eq_true hc.1)
    have eo : v.toNat = o := by omega
    rw [eo] at hc h
    have pG : plG S (fDlT S o).1 := (dlG hI ho8 (sn S 6) (Nat.le_refl _)).1
    have hRT := hRr.frY hMS hB ((pG.mfr.trans (dZ_mfr (z := z) (o := o) (mm := sn S 27))).trans (mfr.mt (v := 0)))
    have hf := ((ffr.mt (X := fDlZ z (fDlT S o).1 o (sn S 27)) (v := 0)).trans (srcI hRT hI ho8)).trans (mZ_ffr (o := o) (mm := sn (mt (fDlZ z (fDlT S o).1 o (sn S 27)) 0) 42))
    rw [← h] at hf
    clear h
    generalize (fDlT S o).1 = T at *
    have c6 := pG.ceq (c := 6) (by decide)
    have kZ : hkR S S2 := ⟨g.1.1, fun l hl => by
      rw [hf.2.1 6 7 _ (by decide), dZ_T (by omega) (by omega) (by omega)]
      exact c6.2.1 7 l, fun l a b => absurd b (by rw [hf.1 6 (by decide), dZ_n, c6.1]; omega)⟩
    refine h7.q g kZ hI (fun q hq => fTl_gW g hI hq ?_) (fun q a b => ?_)
    · rw [hf.2.2 26 _ (by decide), dZ_E, if_neg (by omega)]
      exact (pG.ceq (c := 26) (by decide)).2.2 _
    · rw [hf.1 8 (by decide), dZ_n, (pG.ceq (c := 8) (by decide)).1] at b
      omega
end ZF10
