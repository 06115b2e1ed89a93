/-! THE ACCOUNT: bought lots, along every chain -/
set_option maxRecDepth 100000
section ZG21
variable {z : Nat → Nat} {k x s T U : Nat} {S S2 : hS} {c c2 : Ctr}
theorem nwMe {v w : Int} (hI : iAll z k S) (h : pMe z S S2 v w) : sn S2 6 = sn S 6 := by
  rcases h with ⟨v, rfl⟩ | ⟨hv, -, p', rfl⟩
  · rfl
  · have hf : ∀ T : hS, ffr T (mMeasS (mt T 0) v.toNat p' w).1 := fun T => by
      have o1 : ∀ U : hS, ffr T U → ffr T (mOutS U p' w) := fun U hU => hU.trans outS_chM.fr
      unfold mMeasS
      split
      · have hL : ∀ (V : hS) (n : Nat), ffr V (mLoseN V n).1 := by
          intro V n
          induction n with
          | zero => exact .refl
          | succ n ih =>
            rw [mLoseN_succ']
            unfold mLoseStep
            split
            · exact ih.trans mFr_ffr
            · exact ih
        exact ((o1 _ ffr.mt).set (by decide)).trans (hL _ _)
      · exact o1 _ ffr.mt
    refine ((hf _).1 6 (by decide)).trans ((lose_n (sn S 8)).trans ?_)
    unfold fMeasS
    exact (outS_chF (X := S) (c := 2 + fLp S v.toNat % 2) (j := fLp S v.toNat / 2) (v := w)).1 6 (by omega) |>.1
theorem nwHo {v : Int} {on : Bool} (hz : zInj z) (hRr : rR z S S) (hI : iAll z k S) (hMS : mShape S) (hB : mBox S) (h : pHo z S S2 v on) : sn S2 6 = sn S 6 := by
  rcases h with ⟨v, rfl⟩ | ⟨-, rfl⟩
  · rfl
  · obtain ⟨-, -, -, -, -, -, -, -, hf, -⟩ := pairHold (q := v.toNat) (on := on) hz hRr hI hMS hB
    exact (hf.1 6 (by decide)).trans ((lose_n (sn S 8)).trans rfl)
theorem nwPr {v : Int} (hz : zInj z) (hRr : rR z S S) (hI : iAll z k S) (hMS : mShape S) (hB : mBox S) (h : pPr z S S2 v) : sn S2 6 = sn S 6 := by
  rcases h with ⟨v, rfl⟩ | ⟨hc, rfl⟩
  · rfl
  · unfold cPr at hc
    rw [Bool.and_eq_true, Bool.and_eq_true] at hc
    obtain ⟨o, ho, ho8⟩ := idx (of_decide_eq_true hc.1)
    have eo : v.toNat = o := by omega
    rw [eo] at hc ⊢
    have hmd : (sT S 8 1 o).toNat % 2 = 0 := of_decide_eq_true hc.2.1
    have hst : sT S 8 7 o = (z 0 : Nat) := of_decide_eq_true hc.2.2
    have fm := (pairRA hz hRr hI hMS hB ho8 hst hmd).2.2.2.2.2.2.1.1
    have hR2 := hRr.frY hMS hB (fm.trans (mfr.mt (v := 0)))
    have hS2 := hMS.fr (fm.trans (mfr.mt (v := 0)))
    have hB2 := hB.fr (fm.trans (mfr.mt (v := 0)))
    have c7 := (pairRA (Y := mt (fRA z S o).1 0) hz hR2 hI hS2 hB2 ho8 hst hmd).2.2.2.2.2.2.1.2
    exact (c7.1 6 (by decide)).trans (ra_n6 hI ho8 hmd hst)
theorem nwDl {v : Int} (hRr : rR z S S) (hI : iAll z k S) (hMS : mShape S) (hB : mBox S) (h : pDl z S S2 v) : sn S2 6 = sn S 6 := by
  rcases h with ⟨v, rfl⟩ | ⟨hc, -, h⟩ | ⟨hc, -, h⟩
  · rfl
  · unfold cDl at hc
    rw [Bool.and_eq_true] at hc
    obtain ⟨o, ho, ho8⟩ := idx (of_decide_eq_true hc.1)
    have eo : v.toNat = o := by omega
    rw [eo] at hc h
    have pG : plG S (fDlT S o).1 := (dlG hI ho8 (sn S 6) (Nat.le_refl _)).1
    have hRT := hRr.frY hMS hB (pG.mfr.trans (mfr.mt (v := 0)))
    have hf := (ffr.mt (X := (fDlT S o).1) (v := 0)).trans (srcI hRT hI ho8)
    rw [← h] at hf
    exact (hf.1 6 (by decide)).trans (pG.ceq (c := 6) (by decide)).1
  · unfold cDl at hc
    rw [Bool.and_eq_true] at hc
    obtain ⟨o, ho, ho8⟩ := idx (of_decide_eq_true hc.1)
    have eo : v.toNat = o := by omega
    rw [eo] at hc h
    have pG : plG S (fDlT S o).1 := (dlG hI ho8 (sn S 6) (Nat.le_refl _)).1
    have hRT := hRr.frY hMS hB ((pG.mfr.trans (dZ_mfr (z := z) (o := o) (mm := sn S 27))).trans (mfr.mt (v := 0)))
    have hf := ((ffr.mt (X := fDlZ z (fDlT S o).1 o (sn S 27)) (v := 0)).trans (srcI hRT hI ho8)).trans (mZ_ffr (o := o) (mm := sn (mt (fDlZ z (fDlT S o).1 o (sn S 27)) 0) 42))
    rw [← h] at hf
    exact (hf.1 6 (by decide)).trans (dZ_n.trans (pG.ceq (c := 6) (by decide)).1)
theorem bg_same (g : gW z S S2) (hn : nwM S S2) (h5 : sT S2 0 5 0 = sT S 0 5 0) (h : bgN S ≤ (sT S 0 5 0).toNat) : bgN S2 ≤ (sT S2 0 5 0).toNat := by
  rw [hn.bg g, h5]; exact h
theorem bgRc {p q cc u v : Int} (hI : iAll z k S) (g : gW z S S2) (h : pRc z S S2 p q cc u v) (hb : bgN S ≤ (sT S 0 5 0).toNat) : bgN S2 ≤ (sT S2 0 5 0).toNat := by
  have h0 := hI.cn.1
  rcases h with ⟨w, rfl⟩ | ⟨-, is, rfl⟩
  · exact bg_same g (.eq rfl) (ffr.mt.2.1 0 5 0 (by decide)) hb
  · rw [fRecv_eq, mRecv_eq] at g ⊢
    generalize fIsR (fRl z S u.toNat) v = b at g ⊢
    have hf : ffr (fRefuse z (fL S p q cc b) u.toNat u.toNat (fRl z S u.toNat) v) (mSupS z (mL (fRefuse z (fL S p q cc b) u.toNat u.toNat (fRl z S u.toNat) v) p q cc is) u.toNat is) := mL_ffr.trans mSupS_ffr
    have hR : ∀ d : Nat, d ≠ 9 → d ≠ 28 → ceq (fL S p q cc b) (fRefuse z (fL S p q cc b) u.toNat u.toNat (fRl z S u.toNat) v) d := fun d a b => fRefuse_ceq ⟨a, b⟩
    generalize mSupS z (mL (fRefuse z (fL S p q cc b) u.toNat u.toNat (fRl z S u.toNat) v) p q cc is) u.toNat is = Y at g hf ⊢
    have n6 : sn Y 6 = sn S 6 + 1 := (hf.1 6 (by decide)).trans ((hR 6 (by decide) (by decide)).1.trans fL_n6)
    have e5 : sT Y 0 5 0 = sT S 0 5 0 + 1 := (hf.2.1 0 5 0 (by decide)).trans (((hR 0 (by decide) (by decide)).2.1 5 0).trans fL_05)
    have : bgN Y ≤ bgN S + 1 := by
      unfold bgN
      rw [n6]
      show ns (sn S 6) _ + (if (sT Y 6 1 (sn S 6)).toNat % 2 = 1 then 1 else 0) ≤ _
      have e : ns (sn S 6) (fun l => if (sT Y 6 1 l).toNat % 2 = 1 then 1 else 0) = ns (sn S 6) (fun l => if (sT S 6 1 l).toNat % 2 = 1 then 1 else 0) := ns_cg (fun l hl => by rw [g.1.2 1 l hl (by decide)])
      rw [e]
      split <;> omega
    rw [e5]
    omega
/-- one call -/
theorem bg_step (hz : zInj z) (h1 : gd z k S) (h2 : gd z (k + 1) S2) (hk : k ≤ 1000) (h : St z S S2 x s c c2) (gg : gRn z S S2) (hb : bgN S ≤ (sT S 0 5 0).toNat) : bgN S2 ≤ (sT S2 0 5 0).toNat := by
  obtain ⟨hr, hI, hS, hB, hR⟩ := h1
  have hI2 := h2.2.1
  have g := gg.1
  rcases h with h | h | h | h | h | h | h | h | h | h | h | h | h | h | h | h | h | h | h | h | h
  · have hf : ffr S S2 := h.1.1
    exact bg_same g (.eq (hf.1 6 (by decide))) (hf.2.1 0 5 0 (by decide)) hb
  · have hf : ffr S S2 := h.1.1
    exact bg_same g (.eq (hf.1 6 (by decide))) (hf.2.1 0 5 0 (by decide)) hb
  · have hf : ffr S S2 := h.1.1
    exact bg_same g (.eq (hf.1 6 (by decide))) (hf.2.1 0 5 0 (by decide)) hb
  · have hf : ffr S S2 := h.1.1
    exact bg_same g (.eq (hf.1 6 (by decide))) (hf.2.1 0 5 0 (by decide)) hb
  · have hf : ffr S S2 := h.1.1
    exact bg_same g (.eq (hf.1 6 (by decide))) (hf.2.1 0 5 0 (by decide)) hb
  · have hf : ffr S S2 := h.1.1
    exact bg_same g (.eq (hf.1 6 (by decide))) (hf.2.1 0 5 0 (by decide)) hb
  · obtain ⟨⟨⟨p, q, r, t, h⟩, -⟩, -⟩ := h
    refine bg_same g (.eq ?_) (cnAM (z := z) h).2.2.2.2.1 hb
    rcases h with ⟨v, rfl⟩ | ⟨-, -, rfl⟩
    · rfl
    · exact (mAM_ffr.1 6 (by decide)).trans (fAM_ceq (by decide) (by decide) (by decide)).1
  · obtain ⟨⟨⟨cc, f, h⟩, -⟩, -⟩ := h
    rcases h with ⟨v, rfl⟩ | ⟨-, -, rfl⟩
    · exact bg_same g (.eq rfl) (ffr.mt.2.1 0 5 0 (by decide)) hb
    · exact bg_same g (.eq ((mAP_ffr.1 6 (by decide)).trans (fAP_ceq (by decide) (by decide) (by decide) (by decide) (by decide)).1)) ((mAP_ffr.2.1 0 5 0 (by decide)).trans ((fAP_ceq (by decide) (by decide) (by decide) (by decide) (by decide)).2.1 5 0)) hb
  · obtain ⟨⟨⟨p, q, r, t, h⟩, -⟩, -⟩ := h
    rcases h with ⟨v, rfl⟩ | ⟨-, rfl⟩
    · exact bg_same g (.eq rfl) (ffr.mt.2.1 0 5 0 (by decide)) hb
    · exact bg_same g (.eq ((cAC_ffr.1 6 (by decide)).trans (fAC_ceq (by decide) (by decide)).1)) ((cAC_ffr.2.1 0 5 0 (by decide)).trans ((fAC_ceq (by decide) (by decide)).2.1 5 0)) hb
  · obtain ⟨⟨⟨p, q, r, t, h⟩, -⟩, -⟩ := h
    refine bg_same g (.eq ?_) (cnAO (z := z) h).2.2.2.2.1 hb
    rcases h with ⟨v, rfl⟩ | ⟨-, rfl⟩
    · rfl
    · exact (cAO_ffr.1 6 (by decide)).trans (fAO_ceq (by decide) (by decide)).1
  · obtain ⟨⟨⟨p, q, cc, u, v, h⟩, -⟩, -⟩ := h
    exact bgRc hI g h hb
  · obtain ⟨⟨v, on, h, -⟩, -⟩ := h
    exact bg_same g (.eq (nwHo hz hr hI hS hB h)) (cnHo hz hr hI hS hB h).2.2.2.2.1 hb
  · obtain ⟨⟨⟨p, y, w, h⟩, -⟩, -⟩ := h
    refine bg_same g (.eq ?_) (cnSC (z := z) h).2.2.2.2.1 hb
    rcases h with ⟨v, rfl⟩ | ⟨-, rfl⟩
    · rfl
    · refine (chartS_chM.fr.1 6 (by decide)).trans ((chartS_chF (c := pcl S p.toNat) (i := pix S p.toNat)).1 6 ?_).1
      show 6 ≠ 2 + _ % 2
      omega
  · obtain ⟨⟨v, w, h, -⟩, -⟩ := h
    exact bg_same g (.eq (nwMe hI h)) (cnMe hz hr hI hS hB h).2.2.2.2.1 hb
  · obtain ⟨⟨⟨p, q, o, d, h⟩, -⟩, -⟩ := h
    rcases h with ⟨v, rfl⟩ | ⟨-, rfl⟩
    · exact bg_same g (.eq rfl) (ffr.mt.2.1 0 5 0 (by decide)) hb
    · have hf : ffr (fOrderS z S p q o d) (mOrderS (fOrderS z S p q o d) p q o d) := mO_ffr
      exact bg_same g (.eq ((hf.1 6 (by decide)).trans (fO_ceq (by decide)).1)) ((hf.2.1 0 5 0 (by decide)).trans ((fO_ceq (by decide)).2.1 5 0)) hb
  · obtain ⟨v, ⟨h, -⟩, -⟩ := h
    exact bg_same g (.eq (nwPr hz hr hI hS hB h)) (cnPr hz hr hI hS hB h).2.2.2.2.1 hb
  · obtain ⟨⟨⟨v, h⟩, -⟩, -⟩ := h
    refine bg_same g (.eq ?_) (cnWd (z := z) h).2.2.2.2.1 hb
    rcases h with ⟨v, rfl⟩ | ⟨-, -, rfl⟩
    · rfl
    · exact (((ffr.mt (v := 0)).trans mFr_ffr).1 6 (by decide)).trans fFr_sn
  · obtain ⟨v, ⟨h, -⟩, -⟩ := h
    refine bg_same g (nwRl hz hr hI hS hB hI2 hR hk h) ?_ hb
    rcases sbRl hz hr hI hS hB hI2 hR hk h with ⟨u, rfl⟩ | ⟨-, -, -, q4, -⟩
    · exact ffr.mt.2.1 0 5 0 (by decide)
    · exact q4.2.2.2.1
  · obtain ⟨⟨⟨v, n, h⟩, -⟩, -⟩ := h
    refine bg_same g (.eq ?_) (cnSc h).1.2.2.2.1 hb
    rcases h with ⟨v, rfl⟩ | ⟨-, -, rfl⟩
    · rfl
    · rfl
  · obtain ⟨⟨e, h, -⟩, -⟩ := h
    rcases h with ⟨⟨u, rfl⟩, -⟩ | ⟨w, -, -⟩
    · exact bg_same g (.eq rfl) (ffr.mt.2.1 0 5 0 (by decide)) hb
    · exact bg_same g (w.nw hR.2.2).2 (w.low hz hR.2.2).1.2.2.2.1 hb
  · obtain ⟨v, ⟨h, -⟩, -⟩ := h
    exact bg_same g (.eq (nwDl hr hI hS hB h)) (sbDl hz hr hI hS hB hI2 hR h).1.2.2.2.1 hb
/-- bought lots were received -/
theorem bg_all (hz : zInj z) : ∀ (k : Nat) (S : hS) (T U : Nat) (c : Ctr), k ≤ 1000 → ChC z k S T U c → bgN S ≤ (sT S 0 5 0).toNat
  | 0, S, T, U, c, _, ⟨a, _, _, _⟩ => by
    subst a
    exact Nat.le_refl 0
  | k + 1, S2, T2, U2, c2, hk, ⟨S, T, U, x, s, c, h1, h2, h3, h4, h5, _, _⟩ => bg_step hz h2 h3 (by omega) h4 h5 (bg_all hz k S T U c (by omega) h1)
end ZG21
