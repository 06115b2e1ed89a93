/-! THE ACCOUNT: releases and deliveries, what they leave -/
set_option maxRecDepth 100000
section ZG15
variable {z : Nat → Nat} {k k2 o l e : Nat} {X Y S S2 T G A B : hS}
theorem relT_st (hI : iAll z k S) (ho : o < sn S 8) (hmd : (sT S 8 1 o).toNat % 2 = 0) {q : Nat} (hq : q ≠ o) : sT (fRelT z S o).1 8 7 q = sT S 8 7 q := by
  unfold fRelT
  split
  · rename_i h
    exact ra_st hI ho hmd (of_decide_eq_true h) hq
  · rfl
theorem sbRl {v : Int} (hz : zInj z) (hRr : rR z S S) (hI : iAll z k S) (hMS : mShape S) (hB : mBox S) (hI2 : iAll z k2 S2) (hR : iRn z S) (hk : k ≤ 1000) (h : pRl z S S2 v) :
    (∃ w : Int, S2 = mt S w) ∨ (cRl z S v = true ∧ v.toNat < sn S 8 ∧ (sT S 8 1 v.toNat).toNat % 2 = 0 ∧ cq S S2 ∧ ∀ q : Nat, q < sn S 8 → q ≠ v.toNat → (sb z S2 q = true → sb z S q = true) ∧ (rb z S2 q = true → rb z S q = true)) := by
  have g := (stRl hz hRr hI hMS hB hI2 hR hk h).1
  rcases h with h | ⟨hcc, hok, h⟩ | ⟨hcc, hok, h⟩
  · exact Or.inl h
  · have hc := hcc
    unfold cRl at hc
    rw [Bool.and_eq_true, Bool.and_eq_true] at hc
    obtain ⟨o, ho, ho8⟩ := idx (of_decide_eq_true hc.1)
    have eo : v.toNat = o := by omega
    rw [eo] at hc hok h ⊢
    have hmd : (sT S 8 1 o).toNat % 2 = 0 := of_decide_eq_true hc.2.1
    have hah := hc.2.2
    have t6 := (pairRelT hz hRr hI hR.1.1 hMS hB ho8 hah hmd).1.2.2.2.2.2.1
    have hR1 := hRr.frY hMS hB t6
    have u7 := (pairRelT hz hR1 hI hR.1.1 (hMS.fr t6) (hB.fr t6) ho8 hah hmd).1.2.2.2.2.2.2.1
    rw [← h] at u7
    have gT := relTW hz hI hR ho8 hmd
    refine Or.inr ⟨hcc, ho8, hmd, (relT_kC hz hI ho8 hmd).2.trans (.ff u7), fun q hq hqo => ⟨fun hb => ?_, fun hb => ((relT_kC hz hI ho8 hmd).1.ky hz (fun p hp => gT.1.2.2.1.2 1 p hp (by decide)) q hq).1 (by
      unfold rb at hb ⊢
      rw [u7.2.1 8 1 q (by decide), u7.2.1 8 7 q (by decide)] at hb
      exact hb)⟩⟩
    obtain ⟨w1, w2⟩ := of_decide_eq_true hb
    rw [g.2.2.1.2 1 q hq (by decide)] at w1
    rw [u7.2.1 8 7 q (by decide), relT_st hI ho8 hmd hqo] at w2
    exact decide_eq_true ⟨w1, w2⟩
  · have hc := hcc
    unfold cRl at hc
    rw [Bool.and_eq_true, Bool.and_eq_true] at hc
    obtain ⟨o, ho, ho8⟩ := idx (of_decide_eq_true hc.1)
    have eo : v.toNat = o := by omega
    rw [eo] at hc hok h ⊢
    have hmd : (sT S 8 1 o).toNat % 2 = 0 := of_decide_eq_true hc.2.1
    have hah := hc.2.2
    have w6 := (pairRel hz hRr hI hR.1.1 hMS hB ho8 hah hmd hk hok).2.1.1
    have hR1 := hRr.frY hMS hB w6
    have v7 := (pairRel hz hR1 hI hR.1.1 (hMS.fr w6) (hB.fr w6) ho8 hah hmd hk hok).2.1.2.1
    unfold sRl at h
    rw [← h] at v7
    have gT := relTW hz hI hR ho8 hmd
    have kT := relT_kC hz hI ho8 hmd
    have sT87 : ∀ q : Nat, q ≠ o → sT (fRelT z S o).1 8 7 q = sT S 8 7 q := fun q hq => relT_st hI ho8 hmd hq
    obtain ⟨⟨t1, t2, t3, t4, t5, t6, t7, t8, t9, t10, t11, t12⟩, -, -, tst⟩ := pairRelT hz hRr hI hR.1.1 hMS hB ho8 hah hmd
    have hst := tst hok
    clear h
    generalize (fRelT z S o).1 = T at *
    generalize (mRelT S o).1 = U at *
    have ho' : o < sn T 8 := by rw [t11]; exact ho8
    obtain ⟨⟨g1, g2, g3, g4, g5, g6, g7, g8, g9, g10, g11, g12, g13⟩, -, -⟩ := pairRelP hz t1 t2 t3 t4 t5 ho' hst (by rw [t12]; exact hmd) hk
    have gG := relGW hz t2 gT.2 ho' hst (by rw [t12]; exact hmd) g2 g12
    have qG : cq T (fGoOn z (fRelQ (fRelU T o) o) o) := relQ_cq.trans go_cq
    have h87 : ∀ q : Nat, q ≠ o → sT (fGoOn z (fRelQ (fRelU T o) o) o) 8 7 q = sT T 8 7 q := fun q hq => by
      rw [g12 7 q (by omega)]
      unfold fRelQ
      rw [sT_set, if_neg (by omega)]
      exact fRel_sT (by omega) (by omega) (by omega)
    have hcst := g2.co.2.2.2.2.2
    unfold fRelZ at v7
    generalize fGoOn z (fRelQ (fRelU T o) o) o = G at *
    generalize mGoOn (mRelQ (mRelU U o) o) o = M at *
    obtain ⟨⟨b1, b2, b3, b4, b5, b6, b7, b8, b9, b10, b11, b12, b13, b14⟩, -⟩ := pairBegT hz g1 (g2.mono (Nat.le_succ _)) g3 g4 (by push_cast; omega)
    obtain ⟨q1, q2, q3⟩ := b12.low hz gG.2.2.2
    have hS8 : sn T 8 = sn S 8 := kT.2.2.2.2.2
    have hG8 : sn G 8 = sn T 8 := qG.2.2.2.2
    have h81 : ∀ q : Nat, q < sn T 8 → sT G 8 1 q = sT T 8 1 q := fun q hq => gG.1.2.2.1.2 1 q hq (by decide)
    refine Or.inr ⟨hcc, ho8, hmd, (kT.2.trans qG).trans (q1.trans (.ff v7)), fun q hq hqo => ⟨fun hb => ?_, fun w => ?_⟩⟩
    rotate_left
    · have w1 : rb z (fBeginN z G (sn G 1)) q = true := by
        unfold rb at w ⊢
        rw [v7.2.1 8 1 q (by decide), v7.2.1 8 7 q (by decide)] at w
        exact w
      have w2 := rb_low g2.or q2 q3 (by omega) w1
      have w3 : rb z T q = true := by
        unfold rb at w2 ⊢
        rw [h81 q (by omega), h87 q hqo] at w2
        exact w2
      exact (kT.1.ky hz (fun p hp => gT.1.2.2.1.2 1 p hp (by decide)) q hq).1 w3
    obtain ⟨w1, w2⟩ := of_decide_eq_true hb
    rw [g.2.2.1.2 1 q hq (by decide)] at w1
    refine decide_eq_true ⟨w1, fun w => w2 ?_⟩
    have hG0 : sT G 8 7 q = (z 0 : Nat) := by rw [h87 q hqo, sT87 q hqo]; exact w
    have hz0 := (g2.or q (by omega)).2.2.2.2.2.2.2.2.2.2.2.2.2.2.1
    rw [v7.2.1 8 7 q (by decide), q3 q (Or.inl hG0) (hz0 (Or.inl hG0)).2.1]
    exact hG0
/-- deliveries: nothing new but delivered pieces -/
theorem sbDl {v : Int} (hz : zInj z) (hRr : rR z S S) (hI : iAll z k S) (hMS : mShape S) (hB : mBox S) (hI2 : iAll z k2 S2) (hR : iRn z S) (h : pDl z S S2 v) :
    cq S S2 ∧ ((∀ q : Nat, sT S2 8 7 q = sT S 8 7 q) ∨ (v.toNat < sn S 8 ∧ fDelOk z S v.toNat = true ∧ sT S2 8 7 v.toNat = (z 5 : Nat) ∧ ∀ q : Nat, q ≠ v.toNat → sT S2 8 7 q = sT S 8 7 q)) := by
  rcases h with ⟨v, rfl⟩ | ⟨hc, -, h⟩ | ⟨hc, -, h⟩
  · exact ⟨.ff ffr.mt, Or.inl (fun q => ffr.mt.2.1 8 7 q (by decide))⟩
  · unfold cDl at hc
    rw [Bool.and_eq_true] at hc
    obtain ⟨o, ho, ho8⟩ := idx (of_decide_eq_true hc.1)
    have eo : v.toNat = o := by omega
    rw [eo] at hc h
    have pG : plG S (fDlT S o).1 := (dlG hI ho8 (sn S 6) (Nat.le_refl _)).1
    have hRT := hRr.frY hMS hB (pG.mfr.trans (mfr.mt (v := 0)))
    have hf := (ffr.mt (X := (fDlT S o).1) (v := 0)).trans (srcI hRT hI ho8)
    rw [← h] at hf
    exact ⟨(cq.cl (fun c hc => pG.ceq (by omega))).trans (.ff hf), Or.inl (fun q => (hf.2.1 8 7 q (by decide)).trans ((pG.ceq (c := 8) (by decide)).2.1 7 q))⟩
  · unfold cDl at hc
    rw [Bool.and_eq_true] at hc
    obtain ⟨o, ho, ho8⟩ := idx (of_decide_eq_true hc.1)
    have eo : v.toNat = o := by omega
    rw [eo] at hc h ⊢
    obtain ⟨pG, hes, -, -⟩ := dlG hI ho8 (sn S 6) (Nat.le_refl _)
    have pG : plG S (fDlT S o).1 := pG
    have hRT := hRr.frY hMS hB ((pG.mfr.trans (dZ_mfr (z := z) (o := o) (mm := sn S 27))).trans (mfr.mt (v := 0)))
    have hf := ((ffr.mt (X := fDlZ z (fDlT S o).1 o (sn S 27)) (v := 0)).trans (srcI hRT hI ho8)).trans (mZ_ffr (o := o) (mm := sn (mt (fDlZ z (fDlT S o).1 o (sn S 27)) 0) 42))
    rw [← h] at hf
    clear h hes
    generalize (fDlT S o).1 = T at *
    have hZ : cq T (fDlZ z T o (sn S 27)) := ⟨by rw [dZ_E, if_neg (by omega)], dZ_n, fun i => by rw [dZ_E, if_neg (by omega)], dZ_T (by omega) (by omega) (by omega), dZ_n⟩
    have h5 : sT (fDlZ z T o (sn S 27)) 8 7 o = (z 5 : Nat) := by
      unfold fDlZ
      rw [sT_set, if_pos ⟨rfl, rfl, rfl⟩]
    exact ⟨((cq.cl (fun c hc => pG.ceq (by omega))).trans hZ).trans (.ff hf), Or.inr ⟨ho8, hc.2, (hf.2.1 8 7 o (by decide)).trans h5, fun q hq => (hf.2.1 8 7 q (by decide)).trans ((dZ_T (by omega) (by omega) (by omega)).trans ((pG.ceq (c := 8) (by decide)).2.1 7 q))⟩⟩
/-- what a delivery costs -/
theorem nDl_le {v : Int} (hRr : rR z S S) (hI : iAll z k S) (hMS : mShape S) (hB : mBox S) : (nDl z S v).1 = 0 ∨ (v.toNat < sn S 8 ∧ (nDl z S v).1 ≤ 2 * sA S (pO S v.toNat) + 4 * sn S 6 + 5) := by
  unfold nDl
  by_cases hc : cDl z S v = true
  · right
    rw [if_pos hc]
    unfold cDl at hc
    rw [Bool.and_eq_true] at hc
    obtain ⟨o, ho, ho8⟩ := idx (of_decide_eq_true hc.1)
    have eo : v.toNat = o := by omega
    rw [eo]
    refine ⟨ho8, ?_⟩
    have pG : plG S (fDlT S o).1 := (dlG hI ho8 (sn S 6) (Nat.le_refl _)).1
    have m1 := pG.mfr.trans (mfr.mt (v := 0))
    have m2 := (pG.mfr.trans (dZ_mfr (z := z) (o := o) (mm := sn S 27))).trans (mfr.mt (v := 0))
    obtain ⟨p1, hp1, e1, c1⟩ := delC (hRr.frY hMS hB m1) hI ho8
    obtain ⟨p2, hp2, e2, c2⟩ := delC (hRr.frY hMS hB m2) hI ho8
    rw [← pO_at hI hp1 e1] at c1
    rw [← pO_at hI hp2 e2] at c2
    split
    · show (fDlT S o).2.2.1 + (mSrc (mt (fDlT S o).1 0) o).2.1 ≤ _
      omega
    · show (fDlT S o).2.2.1 + (mSrc (mt (fDlZ z (fDlT S o).1 o (sn S 27)) 0) o).2.1 + (dNL S o (sn S 6)).length ≤ _
      exact c2
  · left
    rw [if_neg hc]
end ZG15
