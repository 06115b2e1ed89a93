/-! THE ROOM: measurings, releases, deliveries keep it -/
set_option maxRecDepth 100000
section ZF4
variable {z : Nat → Nat} {k k2 k3 o l : Nat} {X Y S S2 T : hS}
theorem xMe {v w : Int} (hz : zInj z) (hRr : rR z S S) (hI : iAll z k S) (hMS : mShape S) (hB : mBox S) (hI2 : iAll z k2 S2) (hR : iRn z S) (h : pMe z S S2 v w) : gX 1 S S2 := by
  have g := (stMe hz hRr hI hMS hB hI2 hR h).1
  refine lE.toX ?_ g hI
  rcases h with ⟨v, rfl⟩ | ⟨hv, -, p', rfl⟩
  · exact .ff ffr.mt
  · obtain ⟨q, hq, hq6⟩ := idx hv
    have eq : v.toNat = q := by omega
    rw [eq]
    obtain ⟨p, hp, hqp⟩ := (hI.lo q hq6).2.1
    have eL : fLp S q = fPc S p := by
      unfold fLp
      rw [hqp]; rfl
    have eMS : fMeasS S q w = fHl (fOutS S (pcl S p) (pix S p) w) q (fOut S (pcl S p) (pix S p) w || fh S q) := by
      unfold fMeasS fHl fMeasOut
      unfold pcl pix
      rw [eL]
    have hcl : pcl S p = 2 ∨ pcl S p = 3 := by unfold pcl; omega
    have h0 : lE S (fMeasS S q w) := by
      rw [eMS]
      exact (lE.sm ((outS_chF (c := pcl S p) (j := pix S p) (v := w)).same hcl)).trans (lE.sm hl_same)
    have h1 := h0.trans (lE_lose (z := z) (sn S 8))
    refine h1.trans (.ff ?_)
    generalize (fLoseN z (fMeasS S q w) (sn S 8)).1 = T
    have o1 : ∀ U : hS, ffr T U → ffr T (mOutS U p' w) := fun U hU => hU.trans outS_chM.fr
    unfold mMeasS
    split
    · have hL : ∀ (V : hS) (n : Nat), ffr V (mLoseN V n).1 := by
        intro V n
        induction n with
        | zero => exact .refl
        | succ n ih =>
          rw [mLoseN_succ']
          unfold mLoseStep
          split
          · exact ih.trans mFr_ffr
          · exact ih
      exact ((o1 _ ffr.mt).set (by decide)).trans (hL _ _)
    · exact o1 _ ffr.mt
theorem relTX (hz : zInj z) (hI : iAll z k S) (hI2 : iAll z k2 (fRelT z S o).1) (hR : iRn z S) (ho : o < sn S 8) (hmd : (sT S 8 1 o).toNat % 2 = 0) : gX 0 S (fRelT z S o).1 := by
  unfold fRelT at hI2 ⊢
  split at hI2
  · rename_i h
    rw [if_pos h]
    exact raX hz hI hI2 hR ho hmd (of_decide_eq_true h)
  · rename_i h
    rw [if_neg h]
    exact fun w hw => hw
theorem xRl {v : Int} (hz : zInj z) (hRr : rR z S S) (hI : iAll z k S) (hMS : mShape S) (hB : mBox S) (hI2 : iAll z k2 S2) (hR : iRn z S) (hk : k ≤ 1000) (h : pRl z S S2 v) : gX 0 S S2 := by
  rcases h with ⟨v, rfl⟩ | ⟨hc, hok, h⟩ | ⟨hc, hok, h⟩
  · exact qMt hI hI2 hR
  · unfold cRl at hc
    rw [Bool.and_eq_true, Bool.and_eq_true] at hc
    obtain ⟨o, ho, ho8⟩ := idx (of_decide_eq_true hc.1)
    have eo : v.toNat = o := by omega
    rw [eo] at hc hok h
    have hmd : (sT S 8 1 o).toNat % 2 = 0 := of_decide_eq_true hc.2.1
    have hah := hc.2.2
    have gT := relTW hz hI hR ho8 hmd
    have hP := pairRelT hz hRr hI hR.1.1 hMS hB ho8 hah hmd
    have t6 := hP.1.2.2.2.2.2.1
    have hIT := hP.1.2.1
    have hR1 := hRr.frY hMS hB t6
    have u7 := (pairRelT hz hR1 hI hR.1.1 (hMS.fr t6) (hB.fr t6) ho8 hah hmd).1.2.2.2.2.2.2.1
    rw [← h] at u7
    exact (relTX hz hI hIT hR ho8 hmd).trans ((lQ.ff u7).toX (ffr.sameW u7).gW hIT hI2)
  · unfold cRl at hc
    rw [Bool.and_eq_true, Bool.and_eq_true] at hc
    obtain ⟨o, ho, ho8⟩ := idx (of_decide_eq_true hc.1)
    have eo : v.toNat = o := by omega
    rw [eo] at hc hok h
    have hmd : (sT S 8 1 o).toNat % 2 = 0 := of_decide_eq_true hc.2.1
    have hah := hc.2.2
    have w6 := (pairRel hz hRr hI hR.1.1 hMS hB ho8 hah hmd hk hok).2.1.1
    have hR1 := hRr.frY hMS hB w6
    have v7 := (pairRel hz hR1 hI hR.1.1 (hMS.fr w6) (hB.fr w6) ho8 hah hmd hk hok).2.1.2.1
    unfold sRl at h
    rw [← h] at v7
    have hIZ := hI2.fr v7.symm
    have gT := relTW hz hI hR ho8 hmd
    obtain ⟨⟨t1, t2, t3, t4, t5, t6, t7, t8, t9, t10, t11, t12⟩, -, -, tst⟩ := pairRelT hz hRr hI hR.1.1 hMS hB ho8 hah hmd
    have hst := tst hok
    have xT := relTX hz hI t2 hR ho8 hmd
    clear h
    generalize (fRelT z S o).1 = T at *
    generalize (mRelT S o).1 = U at *
    have ho' : o < sn T 8 := by rw [t11]; exact ho8
    obtain ⟨⟨g1, g2, g3, g4, g5, g6, g7, g8, g9, g10, g11, g12, g13⟩, -, -⟩ := pairRelP hz t1 t2 t3 t4 t5 ho' hst (by rw [t12]; exact hmd) hk
    have gG := relGW hz t2 gT.2 ho' hst (by rw [t12]; exact hmd) g2 g12
    have hcst := g2.co.2.2.2.2.2
    have lG : lQ T (fGoOn z (fRelQ (fRelU T o) o) o) := (show lQ T (fRelQ (fRelU T o) o) from ⟨fRel_sn, fun i => ⟨fRel_sE, fRel_sE⟩⟩).trans lQ_go
    unfold fRelZ at hIZ v7
    generalize fGoOn z (fRelQ (fRelU T o) o) o = G at *
    generalize mGoOn (mRelQ (mRelU U o) o) o = M at *
    obtain ⟨⟨b1, b2, b3, b4, b5, b6, b7, b8, b9, b10, b11, b12, b13, b14⟩, -⟩ := pairBegT hz g1 (g2.mono (Nat.le_succ _)) g3 g4 (by push_cast; omega)
    have gZ := gG.trans (jobsW hz b12 b13 g2 b2 gG.2)
    have xZ := (lG.trans (b12.lQ gG.2.2.2)).toX gZ.1 t2 b2
    have x2 := (lQ.ff v7).toX (ffr.sameW v7).gW b2 hI2
    exact (xT.trans xZ).trans x2
theorem xDl {v : Int} (hz : zInj z) (hRr : rR z S S) (hI : iAll z k S) (hMS : mShape S) (hB : mBox S) (hI2 : iAll z k2 S2) (hR : iRn z S) (h : pDl z S S2 v) : gX 0 S S2 := by
  have g := (stDl hz hRr hI hMS hB hI2 hR h).1
  rcases h with ⟨v, rfl⟩ | ⟨hc, -, h⟩ | ⟨hc, -, h⟩
  · exact qMt hI hI2 hR
  · unfold cDl at hc
    rw [Bool.and_eq_true] at hc
    obtain ⟨o, ho, ho8⟩ := idx (of_decide_eq_true hc.1)
    have eo : v.toNat = o := by omega
    rw [eo] at hc h
    have pG : plG S (fDlT S o).1 := (dlG hI ho8 (sn S 6) (Nat.le_refl _)).1
    have hRT := hRr.frY hMS hB (pG.mfr.trans (mfr.mt (v := 0)))
    have hf := (ffr.mt (X := (fDlT S o).1) (v := 0)).trans (srcI hRT hI ho8)
    rw [← h] at hf
    exact qX g hI hI2 (pG.ceq (by decide)).1 (fun i _ => (pG.ceq (by decide)).2.2 i) (fun i hi => pG.e27 hi) hf
  · unfold cDl at hc
    rw [Bool.and_eq_true] at hc
    obtain ⟨o, ho, ho8⟩ := idx (of_decide_eq_true hc.1)
    have eo : v.toNat = o := by omega
    rw [eo] at hc h
    obtain ⟨pG, hes, -, -⟩ := dlG hI ho8 (sn S 6) (Nat.le_refl _)
    have hdc := dCand_ok hI ho8
    have hO := (dPl_ok hI (dCand S o (sn S 6)) (by have := (hI.or o ho8).2.2.1; omega) hdc.1 hdc.2 (n := sT S 8 2 o)).1
    have pG : plG S (fDlT S o).1 := pG
    have hes : tlD (fDlT S o).1 (sn S 27) = _ := hes
    have hRT := hRr.frY hMS hB ((pG.mfr.trans (dZ_mfr (z := z) (o := o) (mm := sn S 27))).trans (mfr.mt (v := 0)))
    have hf := ((ffr.mt (X := fDlZ z (fDlT S o).1 o (sn S 27)) (v := 0)).trans (srcI hRT hI ho8)).trans (mZ_ffr (o := o) (mm := sn (mt (fDlZ z (fDlT S o).1 o (sn S 27)) 0) 42))
    rw [← h] at hf
    clear h
    generalize (fDlT S o).1 = T at *
    generalize (dPl S (dCand S o (sn S 6)) (sT S 8 2 o)).1 = es at *
    generalize (dPl S (dCand S o (sn S 6)) (sT S 8 2 o)).2 = left at *
    have u := fun (c : Nat) (hc : c ≠ 7 ∧ c ≠ 27) => pG.ceq hc
    obtain ⟨e5, -, e6, l27⟩ := pG.oL hI ho8
    have hdv0 : fDv S o = [] := by
      have : sE S 27 (fDelL S o) = [] := (hI.em o ho8).2.1 (fun w => by
        have hc2 := hc.2
        unfold fDelOk fStg at hc2
        rw [Bool.or_eq_true, Bool.and_eq_true] at hc2
        rcases hc2 with ⟨-, b⟩ | b
        · have b := of_decide_eq_true b
          have := hz 0 5 (by decide) (by decide) (by omega)
          omega
        · have b := of_decide_eq_true b
          have := hz 4 5 (by decide) (by decide) (by omega)
          omega)
      unfold fDv
      rw [this]; rfl
    have e26 : ∀ i : Nat, sE S2 26 i = sE S 26 i := fun i => by
      rw [hf.2.2 26 _ (by decide), dZ_E, if_neg (by omega)]
      exact (u 26 (by decide)).2.2 i
    have hdvo : fDv S2 o = es := by
      rw [← hes]
      unfold fDv tlD
      rw [g.dL ho8, hf.2.2 27 _ (by decide), dZ_E, if_pos ⟨rfl, e6.symm⟩]
      exact List.map_congr_left (fun t _ => by rw [hf.2.1 7 0 _ (by decide), hf.2.1 7 1 _ (by decide), dZ_T (by omega) (by omega) (by omega), dZ_T (by omega) (by omega) (by omega)])
    have hq : ∀ q : Nat, q < sn S 8 → q ≠ o → fTl S2 q = fTl S q ∧ fDv S2 q = fDv S q := fun q hq hne => by
      obtain ⟨-, -, f6, f27⟩ := pG.oL hI hq
      refine ⟨fTl_gW g hI hq (e26 _), fDv_gW g hI hq ?_⟩
      rw [hf.2.2 27 _ (by decide), dZ_E, if_neg (fun w => hne (hI.sp.2.1 q o hq ho8 (by
        have h1 := (hI.or q hq).2.2.2.2.2.2.1
        have h2 := (hI.or o ho8).2.2.2.2.2.2.1
        have := w.2
        rw [e6] at this
        unfold fDelL at this
        omega)))]
      exact pG.e27 f27
    have hnew : ∀ q : Nat, sn S 8 ≤ q → q < sn S2 8 → fTl S2 q = [] ∧ fDv S2 q = [] := fun q h1 h2 => by
      rw [hf.1 8 (by decide), dZ_n, (u 8 (by decide)).1] at h2
      omega
    refine lkS.toX (o := o) ⟨hq, hnew⟩ g hI hI2 (fun _ => ⟨Or.inl (fTl_gW g hI ho8 (e26 _)), Or.inr ⟨hdv0, fun l ht => ?_⟩, Or.inl (fTl_gW g hI ho8 (e26 _))⟩)
    obtain ⟨o1, o2, o3, o4, o5⟩ := hO
    unfold t27 ofs at ht
    rw [hdvo, ← List.map_dropLast] at ht
    obtain ⟨e, he, hel⟩ := List.mem_map.mp (List.contains_iff_mem.mp ht)
    have hem := (List.dropLast_sublist es).subset he
    obtain ⟨l', a1, a2, a3, a4, a5⟩ := o1 e hem
    have el : l' = l := by omega
    subst el
    have h4 := o4 e he
    have e1t : e.1.toNat = l' := hel
    rw [e1t] at h4
    have hd : dav S l' = av S l' := by
      unfold dav at h4 ⊢
      split
      · rfl
      · rename_i hh
        rw [if_neg hh] at h4
        omega
    have hpl : e.2 ≤ pl es l' := by
      have key : ∀ L : List (Int × Int), (∀ d ∈ L, 0 ≤ d.2) → e ∈ L → e.2 ≤ pl L l' := by
        intro L
        induction L with
        | nil => intro _ h; exact absurd h List.not_mem_nil
        | cons d L ih =>
          intro hL h
          have hnn : 0 ≤ pl L l' := pl_nn (fun x hx => hL x (List.mem_cons_of_mem _ hx))
          rw [pl_cons]
          rcases List.mem_cons.mp h with w | w
          · rw [← w, if_pos a2]; omega
          · have := ih (fun x hx => hL x (List.mem_cons_of_mem _ hx)) w
            have hd0 := hL d List.mem_cons_self
            split <;> omega
      exact key es (fun d hd => by obtain ⟨_, _, _, _, h, _⟩ := o1 d hd; omega) hem
    have hdrop := av_drop (l := l') g hI hI2 (fun q hq8 => by
      by_cases w : q = o
      · rw [w]
        exact ⟨Or.inl (fTl_gW g hI ho8 (e26 _)), Or.inr hdv0⟩
      · exact ⟨Or.inl (hq q hq8 w).1, Or.inl (hq q hq8 w).2⟩) hnew a1 o ho8
    rw [hdvo, hdv0, pl_nil, fTl_gW g hI ho8 (e26 _)] at hdrop
    omega
end ZF4
