/-! THE ROOM: only a delivery delivers: releases -/
set_option maxRecDepth 100000
section ZF14
variable {z : Nat → Nat} {k k2 o l : Nat} {X Y S S2 T G : hS}
theorem go87 : sT (fGoOn z X o) 8 7 o = (z 4 : Nat) ∨ sT (fGoOn z X o) 8 7 o = (z 2 : Nat) := by
  unfold fGoOn
  split
  · rw [fFi_def]
    split
    · exact Or.inl fB_87'
    · exact Or.inl fA_87
  · exact Or.inr (by rw [sT_ssE, sT_set, if_pos ⟨rfl, rfl, rfl⟩])
theorem d5Rl {v : Int} (hz : zInj z) (hRr : rR z S S) (hI : iAll z k S) (hMS : mShape S) (hB : mBox S) (hI2 : iAll z k2 S2) (hR : iRn z S) (hk : k ≤ 1000) (h : pRl z S S2 v) : d5 z S S2 := by
  rcases h with ⟨v, rfl⟩ | ⟨hc, hok, h⟩ | ⟨hc, hok, h⟩
  · exact .ff ffr.mt
  · unfold cRl at hc
    rw [Bool.and_eq_true, Bool.and_eq_true] at hc
    obtain ⟨o, ho, ho8⟩ := idx (of_decide_eq_true hc.1)
    have eo : v.toNat = o := by omega
    rw [eo] at hc hok h
    have hmd : (sT S 8 1 o).toNat % 2 = 0 := of_decide_eq_true hc.2.1
    have hah := hc.2.2
    have gT := relTW hz hI hR ho8 hmd
    have t6 := (pairRelT hz hRr hI hR.1.1 hMS hB ho8 hah hmd).1.2.2.2.2.2.1
    have hR1 := hRr.frY hMS hB t6
    have u7 := (pairRelT hz hR1 hI hR.1.1 (hMS.fr t6) (hB.fr t6) ho8 hah hmd).1.2.2.2.2.2.2.1
    rw [← h] at u7
    exact ((kE_relT hz hI ho8).d5 hz (fun q hq => gT.1.2.2.1.2 1 q hq (by decide))).trans (.ff u7) (fun q _ => u7.2.1 8 1 q (by decide))
  · unfold cRl at hc
    rw [Bool.and_eq_true, Bool.and_eq_true] at hc
    obtain ⟨o, ho, ho8⟩ := idx (of_decide_eq_true hc.1)
    have eo : v.toNat = o := by omega
    rw [eo] at hc hok h
    have hmd : (sT S 8 1 o).toNat % 2 = 0 := of_decide_eq_true hc.2.1
    have hah := hc.2.2
    have w6 := (pairRel hz hRr hI hR.1.1 hMS hB ho8 hah hmd hk hok).2.1.1
    have hR1 := hRr.frY hMS hB w6
    have v7 := (pairRel hz hR1 hI hR.1.1 (hMS.fr w6) (hB.fr w6) ho8 hah hmd hk hok).2.1.2.1
    unfold sRl at h
    rw [← h] at v7
    have gT := relTW hz hI hR ho8 hmd
    have dT := (kE_relT hz hI ho8).d5 hz (fun q hq => gT.1.2.2.1.2 1 q hq (by decide))
    obtain ⟨⟨t1, t2, t3, t4, t5, t6, t7, t8, t9, t10, t11, t12⟩, -, -, tst⟩ := pairRelT hz hRr hI hR.1.1 hMS hB ho8 hah hmd
    have hst := tst hok
    clear h
    generalize (fRelT z S o).1 = T at *
    generalize (mRelT S o).1 = U at *
    have ho' : o < sn T 8 := by rw [t11]; exact ho8
    obtain ⟨⟨g1, g2, g3, g4, g5, g6, g7, g8, g9, g10, g11, g12, g13⟩, -, -⟩ := pairRelP hz t1 t2 t3 t4 t5 ho' hst (by rw [t12]; exact hmd) hk
    have gG := relGW hz t2 gT.2 ho' hst (by rw [t12]; exact hmd) g2 g12
    have n8 : sn (fGoOn z (fRelQ (fRelU T o) o) o) 8 = sn T 8 := lQ_go.1.trans fRel_sn
    have h87 : ∀ q : Nat, q ≠ o → sT (fGoOn z (fRelQ (fRelU T o) o) o) 8 7 q = sT T 8 7 q := fun q hq => by
      rw [g12 7 q (by omega)]
      unfold fRelQ
      rw [sT_set, if_neg (by omega)]
      exact fRel_sT (by omega) (by omega) (by omega)
    have dG : d5 z T (fGoOn z (fRelQ (fRelU T o) o) o) := fun q hq h5 => by
      rw [n8] at hq
      refine ⟨hq, ?_⟩
      by_cases e : q = o
      · subst e
        rcases go87 (z := z) (X := fRelQ (fRelU T q) q) (o := q) with w | w
        · have := hz 4 5 (by decide) (by decide) (by omega)
          omega
        · have := hz 2 5 (by decide) (by decide) (by omega)
          omega
      · rw [h87 q e] at h5
        exact h5
    have hcst := g2.co.2.2.2.2.2
    unfold fRelZ at v7
    clear n8 h87
    generalize fGoOn z (fRelQ (fRelU T o) o) o = G at *
    generalize mGoOn (mRelQ (mRelU U o) o) o = M at *
    obtain ⟨⟨b1, b2, b3, b4, b5, b6, b7, b8, b9, b10, b11, b12, b13, b14⟩, -⟩ := pairBegT hz g1 (g2.mono (Nat.le_succ _)) g3 g4 (by push_cast; omega)
    have gZ := jobsW hz b12 b13 g2 b2 gG.2
    exact ((dT.trans dG (fun q hq => gG.1.2.2.1.2 1 q hq (by decide))).trans (b13.d5 hz) (fun q hq => gZ.1.2.2.1.2 1 q hq (by decide))).trans (.ff v7) (fun q _ => v7.2.1 8 1 q (by decide))
end ZF14
