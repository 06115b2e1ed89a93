/-! THE ROOM: promises, releases, deliveries, measurings keep that a finished order has its own lot, whole -/
set_option maxRecDepth 100000
section ZF7
variable {z : Nat → Nat} {k k2 o l : Nat} {X Y S S2 T G : hS}
theorem kE_ra (hz : zInj z) (hI : iAll z k S) (ho : o < sn S 8) (hst : sT S 8 7 o = (z 0 : Nat)) : kE z S (fRA z S o).1 := by
  have hem : sE S 26 (fOL S o) = [] := (hI.em o ho).1 hst
  obtain ⟨q1, q2, -⟩ := rkH.list hz hI ho (Or.inl hst)
  have hG := (ranQ (S := S) (o := o) (hd := hldF S) (fun T hT l hl => hT.held hI.lo hI.tk hI.chlt (fun l hl => q2 l hl) hl) hem _ (Nat.le_refl _)).1
  obtain ⟨a1, a2, a3, a4, a5, -, -⟩ := hG
  unfold fRA
  by_cases hok : (fRAN S o (fComps S o).length).2.1 = true
  · rw [if_pos hok]
    refine ⟨a1 8 (by decide), fun q => ⟨?_, ?_⟩⟩
    · by_cases e : q = o
      · right; right
        show sT (sset _ 8 7 o (z 1 : Nat)) 8 7 q = _
        rw [sT_set, if_pos ⟨rfl, rfl, e⟩]
      · left
        show sT (sset _ 8 7 o (z 1 : Nat)) 8 7 q = _
        rw [sT_set, if_neg (by omega)]
        exact a4 8 7 q (by decide) (by omega)
    · show sT (sset _ 8 7 o (z 1 : Nat)) 8 8 q = _
      rw [sT_set, if_neg (by omega)]
      exact a4 8 8 q (by decide) (by omega)
  · rw [if_neg hok]
    refine ⟨?_, fun q => ⟨Or.inl ?_, ?_⟩⟩
    · show sn (fTakeBack _ o) 8 = _
      rw [fTB_sn]; exact a1 8 (by decide)
    · show sT (fTakeBack _ o) 8 7 q = _
      rw [fTB_sT (by omega)]; exact a4 8 7 q (by decide) (by omega)
    · show sT (fTakeBack _ o) 8 8 q = _
      rw [fTB_sT (by omega)]; exact a4 8 8 q (by decide) (by omega)
theorem yPr {v : Int} (hz : zInj z) (hRr : rR z S S) (hI : iAll z k S) (hMS : mShape S) (hB : mBox S) (hI2 : iAll z k2 S2) (hR : iRn z S) (h : pPr z S S2 v) (h0 : i0 z S) : i0 z S2 := by
  have g := (stPr hz hRr hI hMS hB hI2 hR h).1
  refine kE.i0 hz ?_ g hI h0
  rcases h with ⟨v, rfl⟩ | ⟨hc, rfl⟩
  · exact .ff ffr.mt
  · unfold cPr at hc
    rw [Bool.and_eq_true, Bool.and_eq_true] at hc
    obtain ⟨o, ho, ho8⟩ := idx (of_decide_eq_true hc.1)
    have eo : v.toNat = o := by omega
    rw [eo] at hc ⊢
    have hmd : (sT S 8 1 o).toNat % 2 = 0 := of_decide_eq_true hc.2.1
    have hst : sT S 8 7 o = (z 0 : Nat) := of_decide_eq_true hc.2.2
    have fm := (pairRA hz hRr hI hMS hB ho8 hst hmd).2.2.2.2.2.2.1.1
    have hR2 := hRr.frY hMS hB (fm.trans (mfr.mt (v := 0)))
    have hS2 := hMS.fr (fm.trans (mfr.mt (v := 0)))
    have hB2 := hB.fr (fm.trans (mfr.mt (v := 0)))
    have c7 := (pairRA (Y := mt (fRA z S o).1 0) hz hR2 hI hS2 hB2 ho8 hst hmd).2.2.2.2.2.2.1.2
    exact (kE_ra hz hI ho8 hst).trans (.ff ((ffr.mt (X := (fRA z S o).1) (v := 0)).trans c7))
theorem kE_relT (hz : zInj z) (hI : iAll z k S) (ho : o < sn S 8) : kE z S (fRelT z S o).1 := by
  unfold fRelT
  split
  · rename_i h
    exact kE_ra hz hI ho (of_decide_eq_true h)
  · exact kE.refl
/-- the order goes on behind the taking out -/
theorem goI0 (hz : zInj z) (hI : iAll z k T) (hR : iRn z T) (ho : o < sn T 8) (hst : sT T 8 7 o = (z 1 : Nat)) (hmd : (sT T 8 1 o).toNat % 2 = 0) (h0 : i0 z T) : i0 z (fGoOn z (fRelQ (fRelU T o) o) o) := by
  obtain ⟨⟨hD, hLt, hC⟩, hM, hPq⟩ := hR
  obtain ⟨q1, q2, q3⟩ := rkH.list hz hI ho (Or.inr hst)
  have hOo := hI.or o ho
  have h13 : sT T 8 13 o = -1 := hOo.2.2.2.2.2.2.2.2.2.2.2.2.2.2.2.1 (fun w => q3 o 4 (by decide) (by decide) w rfl) (fun w => q3 o 5 (by decide) (by decide) w rfl)
  have n : ∀ c : Nat, sn (fRelQ (fRelU T o) o) c = sn T c := fun c => fRel_sn
  have t : ∀ c j i : Nat, ¬ (c = 6 ∧ (j = 4 ∨ j = 5 ∨ j = 6)) → ¬ (c = 7 ∧ j = 2) → ¬ (c = 8 ∧ (j = 10 ∨ j = 8) ∧ i = o) → sT (fRelQ (fRelU T o) o) c j i = sT T c j i := fun c j i h6 h7 h8 => by
    unfold fRelQ
    rw [sT_set, if_neg (by omega)]
    exact fRel_sT h6 h7 (by omega)
  have t88 : sT (fRelQ (fRelU T o) o) 8 8 o = sT T 8 2 o := by
    unfold fRelQ
    rw [sT_set, if_pos ⟨rfl, rfl, rfl⟩]
    exact fRel_sT (by omega) (by omega) (by omega)
  have eOLQ : fOL (fRelQ (fRelU T o) o) o = fOL T o := congrArg Int.toNat (t 8 5 o (by omega) (by omega) (by omega))
  generalize fRelQ (fRelU T o) o = Q at *
  have hPQ : iPq Q := fun q hq => by
    rw [n] at hq
    rw [t 8 2 q (by omega) (by omega) (by omega)]
    by_cases e : q = o
    · rw [e, t88]; exact Int.le_refl _
    · rw [t 8 8 q (by omega) (by omega) (by omega)]
      exact hPq q hq
  have gc := (goC (z := z) (X := Q) (o := o) ⟨1, by decide, by decide, by rw [t 8 7 o (by omega) (by omega) (by omega)]; exact hst⟩ (by rw [n]; exact ho) (by rw [t 8 1 o (by omega) (by omega) (by omega)]; exact hmd) (by rw [t 8 13 o (by omega) (by omega) (by omega)]; exact h13) (fun l hl e => by
    rw [n] at hl
    rw [t 6 3 l (by omega) (by omega) (by omega), eOLQ] at e
    exact q2 l hl (by omega)) (by rw [t 8 5 o (by omega) (by omega) (by omega)]; exact hOo.2.2.2.2.2.1.1) (by
    rw [t 8 1 o (by omega) (by omega) (by omega)]
    obtain ⟨p, -, e⟩ := hOo.2.1
    omega) (fun _ => by
    rw [t88]
    have := hOo.2.2.1.1
    omega))
  refine (gc.1.jb hz hPQ).i0 hz (fun i hi => ?_) (fun i hi => ?_) (fun i hi hs hp => ?_) (fun i hi hm s s2 s6 hs => ?_)
  · rw [n] at hi
    rw [n, t 8 13 i (by omega) (by omega) (by omega)]
    exact (hI.or i hi).2.2.2.2.2.2.2.2.2.2.1.2
  · rw [n] at hi
    rw [t 8 2 i (by omega) (by omega) (by omega)]
    exact (hI.or i hi).2.2.1.1
  · rw [n] at hi
    rw [t 8 2 i (by omega) (by omega) (by omega)]
    by_cases e : i = o
    · rw [e]; exact t88
    · rw [t 8 7 i (by omega) (by omega) (by omega)] at hs
      rw [t 8 8 i (by omega) (by omega) (by omega)] at hp
      have := ((hI.or i hi).2.2.2.2.2.2.2.2.2.2.2.2.2.2.1 (Or.inr hs)).2.1
      omega
  · rw [n] at hi
    rw [t 8 1 i (by omega) (by omega) (by omega)] at hm
    rw [t 8 7 i (by omega) (by omega) (by omega)] at hs
    have hne := q3 i s s2 s6 hs
    rw [t 8 8 i (by omega) (by omega) (by omega), t 8 2 i (by omega) (by omega) (by omega), t 8 13 i (by omega) (by omega) (by omega), t 6 2 _ (by omega) (by omega) (by omega)]
    exact h0 i hi hm s s2 s6 hs
theorem jobsI0 (hz : zInj z) (h : shpC z X Y) (hI : iAll z k X) (hp : iPq X) (h0 : i0 z X) : i0 z Y := by
  refine (h.jb hz hp).i0 hz (fun i hi => (hI.or i hi).2.2.2.2.2.2.2.2.2.2.1.2) (fun i hi => (hI.or i hi).2.2.1.1) (fun i hi hs hp => ?_) h0
  have := ((hI.or i hi).2.2.2.2.2.2.2.2.2.2.2.2.2.2.1 (Or.inr hs)).2.1
  omega
theorem yRl {v : Int} (hz : zInj z) (hRr : rR z S S) (hI : iAll z k S) (hMS : mShape S) (hB : mBox S) (hI2 : iAll z k2 S2) (hR : iRn z S) (hk : k ≤ 1000) (h : pRl z S S2 v) (h0 : i0 z S) : i0 z S2 := by
  rcases h with ⟨v, rfl⟩ | ⟨hc, hok, h⟩ | ⟨hc, hok, h⟩
  · exact h0
  · unfold cRl at hc
    rw [Bool.and_eq_true, Bool.and_eq_true] at hc
    obtain ⟨o, ho, ho8⟩ := idx (of_decide_eq_true hc.1)
    have eo : v.toNat = o := by omega
    rw [eo] at hc hok h
    have hmd : (sT S 8 1 o).toNat % 2 = 0 := of_decide_eq_true hc.2.1
    have hah := hc.2.2
    have gT := relTW hz hI hR ho8 hmd
    have hP := pairRelT hz hRr hI hR.1.1 hMS hB ho8 hah hmd
    have t6 := hP.1.2.2.2.2.2.1
    have hIT := hP.1.2.1
    have hR1 := hRr.frY hMS hB t6
    have u7 := (pairRelT hz hR1 hI hR.1.1 (hMS.fr t6) (hB.fr t6) ho8 hah hmd).1.2.2.2.2.2.2.1
    rw [← h] at u7
    exact kE.i0 hz (.ff u7) (ffr.sameW u7).gW hIT (kE.i0 hz (kE_relT hz hI ho8) gT.1 hI h0)
  · unfold cRl at hc
    rw [Bool.and_eq_true, Bool.and_eq_true] at hc
    obtain ⟨o, ho, ho8⟩ := idx (of_decide_eq_true hc.1)
    have eo : v.toNat = o := by omega
    rw [eo] at hc hok h
    have hmd : (sT S 8 1 o).toNat % 2 = 0 := of_decide_eq_true hc.2.1
    have hah := hc.2.2
    have w6 := (pairRel hz hRr hI hR.1.1 hMS hB ho8 hah hmd hk hok).2.1.1
    have hR1 := hRr.frY hMS hB w6
    have v7 := (pairRel hz hR1 hI hR.1.1 (hMS.fr w6) (hB.fr w6) ho8 hah hmd hk hok).2.1.2.1
    unfold sRl at h
    rw [← h] at v7
    have gT := relTW hz hI hR ho8 hmd
    have kT := kE_relT hz hI ho8 (z := z)
    obtain ⟨⟨t1, t2, t3, t4, t5, t6, t7, t8, t9, t10, t11, t12⟩, -, -, tst⟩ := pairRelT hz hRr hI hR.1.1 hMS hB ho8 hah hmd
    have hst := tst hok
    have h0T := kE.i0 hz kT gT.1 hI h0
    clear h kT
    generalize (fRelT z S o).1 = T at *
    generalize (mRelT S o).1 = U at *
    have ho' : o < sn T 8 := by rw [t11]; exact ho8
    obtain ⟨⟨g1, g2, g3, g4, g5, g6, g7, g8, g9, g10, g11, g12, g13⟩, -, -⟩ := pairRelP hz t1 t2 t3 t4 t5 ho' hst (by rw [t12]; exact hmd) hk
    have gG := relGW hz t2 gT.2 ho' hst (by rw [t12]; exact hmd) g2 g12
    have h0G := goI0 hz t2 gT.2 ho' hst (by rw [t12]; exact hmd) h0T
    have hcst := g2.co.2.2.2.2.2
    unfold fRelZ at v7
    generalize fGoOn z (fRelQ (fRelU T o) o) o = G at *
    generalize mGoOn (mRelQ (mRelU U o) o) o = M at *
    obtain ⟨⟨b1, b2, b3, b4, b5, b6, b7, b8, b9, b10, b11, b12, b13, b14⟩, -⟩ := pairBegT hz g1 (g2.mono (Nat.le_succ _)) g3 g4 (by push_cast; omega)
    exact kE.i0 hz (.ff v7) (ffr.sameW v7).gW b2 (jobsI0 hz b12 g2 gG.2.2.2 h0G)
theorem yDl {v : Int} (hz : zInj z) (hRr : rR z S S) (hI : iAll z k S) (hMS : mShape S) (hB : mBox S) (hI2 : iAll z k2 S2) (hR : iRn z S) (h : pDl z S S2 v) (h0 : i0 z S) : i0 z S2 := by
  have g := (stDl hz hRr hI hMS hB hI2 hR h).1
  rcases h with ⟨v, rfl⟩ | ⟨hc, -, h⟩ | ⟨hc, -, h⟩
  · exact h0
  · unfold cDl at hc
    rw [Bool.and_eq_true] at hc
    obtain ⟨o, ho, ho8⟩ := idx (of_decide_eq_true hc.1)
    have eo : v.toNat = o := by omega
    rw [eo] at hc h
    have pG : plG S (fDlT S o).1 := (dlG hI ho8 (sn S 6) (Nat.le_refl _)).1
    have hRT := hRr.frY hMS hB (pG.mfr.trans (mfr.mt (v := 0)))
    have hf := (ffr.mt (X := (fDlT S o).1) (v := 0)).trans (srcI hRT hI ho8)
    rw [← h] at hf
    exact kE.i0 hz ((kE.cq (pG.ceq (by decide))).trans (.ff hf)) g hI h0
  · unfold cDl at hc
    rw [Bool.and_eq_true] at hc
    obtain ⟨o, ho, ho8⟩ := idx (of_decide_eq_true hc.1)
    have eo : v.toNat = o := by omega
    rw [eo] at hc h
    have pG : plG S (fDlT S o).1 := (dlG hI ho8 (sn S 6) (Nat.le_refl _)).1
    have hRT := hRr.frY hMS hB ((pG.mfr.trans (dZ_mfr (z := z) (o := o) (mm := sn S 27))).trans (mfr.mt (v := 0)))
    have hf := ((ffr.mt (X := fDlZ z (fDlT S o).1 o (sn S 27)) (v := 0)).trans (srcI hRT hI ho8)).trans (mZ_ffr (o := o) (mm := sn (mt (fDlZ z (fDlT S o).1 o (sn S 27)) 0) 42))
    rw [← h] at hf
    clear h
    generalize (fDlT S o).1 = T at *
    have u8 := pG.ceq (c := 8) (by decide)
    refine g0_of g hI (fun q hq hmd s s2 s6 hs => ?_) h0
    rw [hf.1 8 (by decide), dZ_n, u8.1] at hq
    rw [hf.2.1 8 7 _ (by decide)] at hs
    have e1 : sT S2 8 1 q = sT S 8 1 q := g.2.2.1.2 1 q hq (by decide)
    rw [e1] at hmd
    have e8 : sT S2 8 8 q = sT S 8 8 q := by
      rw [hf.2.1 8 8 _ (by decide), dZ_T (by omega) (by omega) (by omega)]
      exact u8.2.1 8 q
    refine ⟨hq, ?_, e8⟩
    by_cases e : q = o
    · subst e
      rw [dZ_87] at hs
      have hc2 := hc.2
      unfold fDelOk fStg at hc2
      rw [Bool.or_eq_true, Bool.and_eq_true] at hc2
      rcases hc2 with ⟨a, -⟩ | a
      · have := of_decide_eq_true a
        omega
      · exact ⟨4, by decide, by decide, fun _ => Nat.le_refl _, of_decide_eq_true a⟩
    · rw [dZ_T (by omega) (by omega) (by omega), u8.2.1 7 q] at hs
      exact ⟨s, s2, s6, fun w => w, hs⟩
end ZF7
