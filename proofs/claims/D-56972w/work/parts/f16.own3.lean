/-! THE ROOM: own lots: releases, deliveries; what a delivery takes -/
set_option maxRecDepth 100000
section ZF16
variable {z : Nat → Nat} {k k2 o l : Nat} {X Y S S2 T G : hS}
theorem go_i8 (ho : o < sn X 8) (h5 : 0 ≤ sT X 8 5 o) (h8 : i8 X) : i8 (fGoOn z X o) := by
  unfold fGoOn
  split
  · rw [fFi_def]
    split
    · intro q hq h0
      by_cases e : q = o
      · subst e
        rw [fB_813, fB_n6, Int.toNat_natCast, fB_6n (j := 3) (by decide), fB_8 (by omega)]
        refine ⟨by omega, ?_⟩
        show ((fOL X q : Nat) : Int) = _
        unfold fOL; omega
      · rw [fB_8 (by omega)] at h0
        obtain ⟨a, b⟩ := h8 q hq h0
        rw [fB_8 (by omega), fB_n6, fB_6 (by omega), fB_8 (by omega)]
        exact ⟨by omega, b⟩
    · intro q hq h0
      rw [fA_8 (by omega)] at h0
      obtain ⟨a, b⟩ := h8 q hq h0
      rw [fA_8 (by omega), fA_8 (by omega), (fA_c (c := 6) (by decide)).2.1]
      exact ⟨a, b⟩
  · intro q hq h0
    rw [sT_ssE, sT_set, if_neg (by omega)] at h0
    obtain ⟨a, b⟩ := h8 q hq h0
    rw [sT_ssE, sT_set, if_neg (by omega), sT_ssE, sT_set, if_neg (by omega), sT_ssE, sT_set, if_neg (by omega)]
    exact ⟨a, b⟩
theorem i8Rl {v : Int} (hz : zInj z) (hRr : rR z S S) (hI : iAll z k S) (hMS : mShape S) (hB : mBox S) (hI2 : iAll z k2 S2) (hR : iRn z S) (hk : k ≤ 1000) (h : pRl z S S2 v) (h8 : i8 S) : i8 S2 := by
  rcases h with ⟨v, rfl⟩ | ⟨hc, hok, h⟩ | ⟨hc, hok, h⟩
  · exact h8
  · unfold cRl at hc
    rw [Bool.and_eq_true, Bool.and_eq_true] at hc
    obtain ⟨o, ho, ho8⟩ := idx (of_decide_eq_true hc.1)
    have eo : v.toNat = o := by omega
    rw [eo] at hc hok h
    have hmd : (sT S 8 1 o).toNat % 2 = 0 := of_decide_eq_true hc.2.1
    have hah := hc.2.2
    have gT := relTW hz hI hR ho8 hmd
    have t6 := (pairRelT hz hRr hI hR.1.1 hMS hB ho8 hah hmd).1.2.2.2.2.2.1
    have hR1 := hRr.frY hMS hB t6
    have u7 := (pairRelT hz hR1 hI hR.1.1 (hMS.fr t6) (hB.fr t6) ho8 hah hmd).1.2.2.2.2.2.2.1
    rw [← h] at u7
    exact (kF.ff u7).i8 (z := z) (ffr.sameW u7).gW ((kF_relT hz hI ho8).i8 gT.1 h8)
  · unfold cRl at hc
    rw [Bool.and_eq_true, Bool.and_eq_true] at hc
    obtain ⟨o, ho, ho8⟩ := idx (of_decide_eq_true hc.1)
    have eo : v.toNat = o := by omega
    rw [eo] at hc hok h
    have hmd : (sT S 8 1 o).toNat % 2 = 0 := of_decide_eq_true hc.2.1
    have hah := hc.2.2
    have w6 := (pairRel hz hRr hI hR.1.1 hMS hB ho8 hah hmd hk hok).2.1.1
    have hR1 := hRr.frY hMS hB w6
    have v7 := (pairRel hz hR1 hI hR.1.1 (hMS.fr w6) (hB.fr w6) ho8 hah hmd hk hok).2.1.2.1
    unfold sRl at h
    rw [← h] at v7
    have gT := relTW hz hI hR ho8 hmd
    have h8T := (kF_relT hz hI ho8).i8 gT.1 h8
    obtain ⟨⟨t1, t2, t3, t4, t5, t6, t7, t8, t9, t10, t11, t12⟩, -, -, tst⟩ := pairRelT hz hRr hI hR.1.1 hMS hB ho8 hah hmd
    have hst := tst hok
    clear h
    generalize (fRelT z S o).1 = T at *
    generalize (mRelT S o).1 = U at *
    have ho' : o < sn T 8 := by rw [t11]; exact ho8
    obtain ⟨⟨g1, g2, g3, g4, g5, g6, g7, g8, g9, g10, g11, g12, g13⟩, -, -⟩ := pairRelP hz t1 t2 t3 t4 t5 ho' hst (by rw [t12]; exact hmd) hk
    have gG := relGW hz t2 gT.2 ho' hst (by rw [t12]; exact hmd) g2 g12
    have nQ : ∀ c : Nat, sn (fRelQ (fRelU T o) o) c = sn T c := fun c => fRel_sn
    have tQ : ∀ c j i : Nat, ¬ (c = 6 ∧ (j = 4 ∨ j = 5 ∨ j = 6)) → ¬ (c = 7 ∧ j = 2) → ¬ (c = 8 ∧ (j = 10 ∨ j = 8) ∧ i = o) → sT (fRelQ (fRelU T o) o) c j i = sT T c j i := fun c j i h6 h7 h8 => by
      unfold fRelQ
      rw [sT_set, if_neg (by omega)]
      exact fRel_sT h6 h7 (by omega)
    have h8Q : i8 (fRelQ (fRelU T o) o) := fun q hq h0 => by
      rw [nQ] at hq
      rw [tQ 8 13 q (by omega) (by omega) (by omega)] at h0
      obtain ⟨a, b⟩ := h8T q hq h0
      rw [tQ 8 13 q (by omega) (by omega) (by omega), nQ, tQ 6 3 _ (by omega) (by omega) (by omega), tQ 8 5 q (by omega) (by omega) (by omega)]
      exact ⟨a, b⟩
    have h8G : i8 (fGoOn z (fRelQ (fRelU T o) o) o) := go_i8 (by rw [nQ]; exact ho') (by rw [tQ 8 5 o (by omega) (by omega) (by omega)]; exact (t2.or o ho').2.2.2.2.2.1.1) h8Q
    have hcst := g2.co.2.2.2.2.2
    unfold fRelZ at v7
    clear nQ tQ h8Q
    generalize fGoOn z (fRelQ (fRelU T o) o) o = G at *
    generalize mGoOn (mRelQ (mRelU U o) o) o = M at *
    obtain ⟨⟨b1, b2, b3, b4, b5, b6, b7, b8, b9, b10, b11, b12, b13, b14⟩, -⟩ := pairBegT hz g1 (g2.mono (Nat.le_succ _)) g3 g4 (by push_cast; omega)
    exact (kF.ff v7).i8 (z := z) (ffr.sameW v7).gW (b12.own gG.2.2.2 h8G).1
/-- what a delivery leaves: the lists of all others; its own, planned -/
theorem dlL {v : Int} (hz : zInj z) (hRr : rR z S S) (hI : iAll z k S) (hMS : mShape S) (hB : mBox S) (hI2 : iAll z k2 S2) (hR : iRn z S) (h : pDl z S S2 v) :
    kF S S2 ∧ (d5 z S S2 ∨ ∃ o : Nat, o < sn S 8 ∧ fDelOk z S o = true ∧ (∀ q : Nat, q ≠ o → sT S2 8 7 q = sT S 8 7 q) ∧ fDv S2 o = (dPl S (dCand S o (sn S 6)) (sT S 8 2 o)).1) := by
  have g := (stDl hz hRr hI hMS hB hI2 hR h).1
  rcases h with ⟨v, rfl⟩ | ⟨hc, -, h⟩ | ⟨hc, -, h⟩
  · exact ⟨.ff ffr.mt, Or.inl (.ff ffr.mt)⟩
  · unfold cDl at hc
    rw [Bool.and_eq_true] at hc
    obtain ⟨o, ho, ho8⟩ := idx (of_decide_eq_true hc.1)
    have eo : v.toNat = o := by omega
    rw [eo] at hc h
    have pG : plG S (fDlT S o).1 := (dlG hI ho8 (sn S 6) (Nat.le_refl _)).1
    have hRT := hRr.frY hMS hB (pG.mfr.trans (mfr.mt (v := 0)))
    have hf := (ffr.mt (X := (fDlT S o).1) (v := 0)).trans (srcI hRT hI ho8)
    rw [← h] at hf
    have c8 := pG.ceq (c := 8) (by decide)
    exact ⟨(kF.cq c8).trans (.ff hf), Or.inl (((kE.cq c8).d5 hz (fun q _ => c8.2.1 1 q)).trans (.ff hf) (fun q _ => hf.2.1 8 1 q (by decide)))⟩
  · unfold cDl at hc
    rw [Bool.and_eq_true] at hc
    obtain ⟨o, ho, ho8⟩ := idx (of_decide_eq_true hc.1)
    have eo : v.toNat = o := by omega
    rw [eo] at hc h
    obtain ⟨pG, hes, -, -⟩ := dlG hI ho8 (sn S 6) (Nat.le_refl _)
    have pG : plG S (fDlT S o).1 := pG
    have hes : tlD (fDlT S o).1 (sn S 27) = _ := hes
    have hRT := hRr.frY hMS hB ((pG.mfr.trans (dZ_mfr (z := z) (o := o) (mm := sn S 27))).trans (mfr.mt (v := 0)))
    have hf := ((ffr.mt (X := fDlZ z (fDlT S o).1 o (sn S 27)) (v := 0)).trans (srcI hRT hI ho8)).trans (mZ_ffr (o := o) (mm := sn (mt (fDlZ z (fDlT S o).1 o (sn S 27)) 0) 42))
    rw [← h] at hf
    clear h
    generalize (fDlT S o).1 = T at *
    have c8 := pG.ceq (c := 8) (by decide)
    obtain ⟨e5, -, e6, l27⟩ := pG.oL hI ho8
    refine ⟨⟨by rw [hf.1 8 (by decide), dZ_n]; exact c8.1, fun q => ?_⟩, Or.inr ⟨o, ho8, hc.2, fun q hq => ?_, ?_⟩⟩
    · rw [hf.2.1 8 13 _ (by decide), dZ_T (by omega) (by omega) (by omega)]
      exact c8.2.1 13 q
    · rw [hf.2.1 8 7 _ (by decide), dZ_T (by omega) (by omega) (by omega)]
      exact c8.2.1 7 q
    · rw [← hes]
      unfold fDv tlD
      rw [g.dL ho8, hf.2.2 27 _ (by decide), dZ_E, if_pos ⟨rfl, e6.symm⟩]
      exact List.map_congr_left (fun t _ => by rw [hf.2.1 7 0 _ (by decide), hf.2.1 7 1 _ (by decide), dZ_T (by omega) (by omega) (by omega), dZ_T (by omega) (by omega) (by omega)])
theorem i8Dl {v : Int} (hz : zInj z) (hRr : rR z S S) (hI : iAll z k S) (hMS : mShape S) (hB : mBox S) (hI2 : iAll z k2 S2) (hR : iRn z S) (h : pDl z S S2 v) (h8 : i8 S) : i8 S2 :=
  (dlL hz hRr hI hMS hB hI2 hR h).1.i8 (stDl hz hRr hI hMS hB hI2 hR h).1 h8
theorem i9Dl {v : Int} (hz : zInj z) (hRr : rR z S S) (hI : iAll z k S) (hMS : mShape S) (hB : mBox S) (hI2 : iAll z k2 S2) (hR : iRn z S) (h : pDl z S S2 v) (h9 : i9 S) : i9 S2 := by
  have g := (stDl hz hRr hI hMS hB hI2 hR h).1
  obtain ⟨kf, hd⟩ := dlL hz hRr hI hMS hB hI2 hR h
  rcases hd with hd | ⟨o, ho, hst, h7, hes⟩
  · exact i9_of g hI hI2 hd h9
  · intro q hq e he
    rw [kf.1] at hq
    by_cases e1 : q = o
    · subst e1
      rw [hes] at he
      have hdc := dCand_ok hI ho
      have hO := (dPl_ok hI (dCand S q (sn S 6)) (by have := (hI.or q ho).2.2.1; omega) hdc.1 hdc.2 (n := sT S 8 2 q)).1
      obtain ⟨l, a1, a2, a3, -⟩ := hO.1 e he
      have : e.1.toNat = l := by omega
      rw [this, g.1.2 1 l a1 (by decide), g.2.2.1.2 1 q ho (by decide)]
      exact a3
    · have h5 : sT S2 8 7 q = (z 5 : Nat) := Decidable.byContradiction (fun w => by
        have := (hI2.em q (by rw [kf.1]; exact hq)).2.1 w
        unfold fDv at he
        rw [this] at he
        exact absurd he List.not_mem_nil)
      rw [h7 q e1] at h5
      rw [fDv_gW g hI hq (g.2.2.2.2.2.2.2.2.2.1 q hq h5)] at he
      have := fDv_at hI hq e he
      rw [g.1.2 1 _ (by omega) (by decide), g.2.2.1.2 1 q hq (by decide)]
      exact h9 q hq e he
end ZF16
