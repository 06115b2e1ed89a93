/-! THE ROOM: promises and releases -/
set_option maxRecDepth 100000
section ZD8
variable {z : Nat → Nat} {k k2 o l : Nat} {X X' X2 S S2 T G U Y : hS}
theorem stPr {v : Int} (hz : zInj z) (hRr : rR z S S) (hI : iAll z k S) (hMS : mShape S) (hB : mBox S) (hI2 : iAll z k2 S2) (hR : iRn z S) (h : pPr z S S2 v) : gRn z S S2 := by
  rcases h with ⟨v, rfl⟩ | ⟨hc, rfl⟩
  · exact .mt hI hR
  · unfold cPr at hc
    rw [Bool.and_eq_true, Bool.and_eq_true] at hc
    obtain ⟨o, ho, ho8⟩ := idx (of_decide_eq_true hc.1)
    have eo : v.toNat = o := by omega
    rw [eo] at hc hI2 ⊢
    have hmd : (sT S 8 1 o).toNat % 2 = 0 := of_decide_eq_true hc.2.1
    have hst : sT S 8 7 o = (z 0 : Nat) := of_decide_eq_true hc.2.2
    have fm := (pairRA hz hRr hI hMS hB ho8 hst hmd).2.2.2.2.2.2.1.1
    have hR2 := hRr.frY hMS hB (fm.trans (mfr.mt (v := 0)))
    have hS2 := hMS.fr (fm.trans (mfr.mt (v := 0)))
    have hB2 := hB.fr (fm.trans (mfr.mt (v := 0)))
    have c7 := (pairRA (Y := mt (fRA z S o).1 0) hz hR2 hI hS2 hB2 ho8 hst hmd).2.2.2.2.2.2.1.2
    exact (raW hz hI hR ho8 hmd hst).fr2 (ffr.mt.trans c7) hI2
theorem relTW (hz : zInj z) (hI : iAll z k S) (hR : iRn z S) (ho : o < sn S 8) (hmd : (sT S 8 1 o).toNat % 2 = 0) : gRn z S (fRelT z S o).1 := by
  unfold fRelT
  split
  · rename_i h
    exact raW hz hI hR ho hmd (of_decide_eq_true h)
  · exact ⟨.refl, hR⟩
/-- the order goes on behind the taking out -/
theorem relGW (hz : zInj z) (hI : iAll z k T) (hR : iRn z T) (ho : o < sn T 8) (hst : sT T 8 7 o = (z 1 : Nat)) (hmd : (sT T 8 1 o).toNat % 2 = 0) (hI2 : iAll z k2 (fGoOn z (fRelQ (fRelU T o) o) o))
    (h8 : ∀ j i : Nat, ¬ ((j = 7 ∨ j = 11 ∨ j = 13) ∧ i = o) → sT (fGoOn z (fRelQ (fRelU T o) o) o) 8 j i = sT (fRelQ (fRelU T o) o) 8 j i) : gRn z T (fGoOn z (fRelQ (fRelU T o) o) o) := by
  obtain ⟨⟨hD, hLt, hC⟩, hM, hPq⟩ := hR
  obtain ⟨q1, q2, q3⟩ := rkH.list hz hI ho (Or.inr hst)
  have hOo := hI.or o ho
  have h13 : sT T 8 13 o = -1 := hOo.2.2.2.2.2.2.2.2.2.2.2.2.2.2.2.1 (fun w => q3 o 4 (by decide) (by decide) w rfl) (fun w => q3 o 5 (by decide) (by decide) w rfl)
  -- the state ahead of going on
  have n : ∀ c : Nat, sn (fRelQ (fRelU T o) o) c = sn T c := fun c => fRel_sn
  have E : ∀ c i : Nat, sE (fRelQ (fRelU T o) o) c i = sE T c i := fun c i => fRel_sE
  have t : ∀ c j i : Nat, ¬ (c = 6 ∧ (j = 4 ∨ j = 5 ∨ j = 6)) → ¬ (c = 7 ∧ j = 2) → ¬ (c = 8 ∧ (j = 10 ∨ j = 8) ∧ i = o) → sT (fRelQ (fRelU T o) o) c j i = sT T c j i := fun c j i h6 h7 h8 => by
    unfold fRelQ
    rw [sT_set, if_neg (by omega)]
    exact fRel_sT h6 h7 (by omega)
  have t88 : sT (fRelQ (fRelU T o) o) 8 8 o = sT T 8 2 o := by
    unfold fRelQ
    rw [sT_set, if_pos ⟨rfl, rfl, rfl⟩]
    exact fRel_sT (by omega) (by omega) (by omega)
  have eOLQ : fOL (fRelQ (fRelU T o) o) o = fOL T o := congrArg Int.toNat (t 8 5 o (by omega) (by omega) (by omega))
  generalize fRelQ (fRelU T o) o = Q at *
  have hLs : iLs Q := fun l hl => by
    rw [n] at hl
    rw [t 6 1 l (by omega) (by omega) (by omega), t 6 2 l (by omega) (by omega) (by omega), t 6 3 l (by omega) (by omega) (by omega), E]
    rcases hLt.ls l hl with w | ⟨w1, w2, q, w3, w4, w5, w6, w7⟩
    · exact Or.inl w
    · exact Or.inr ⟨w1, w2, q, by rw [n]; exact w3, by rw [t 8 13 q (by omega) (by omega) (by omega)]; exact w4, by rw [t 8 5 q (by omega) (by omega) (by omega)]; exact w5, by rw [t 8 1 q (by omega) (by omega) (by omega)]; exact w6, by rw [t 8 2 q (by omega) (by omega) (by omega)]; exact w7⟩
  have hPQ : iPq Q := fun q hq => by
    rw [n] at hq
    rw [t 8 2 q (by omega) (by omega) (by omega)]
    by_cases e : q = o
    · rw [e, t88]; exact Int.le_refl _
    · rw [t 8 8 q (by omega) (by omega) (by omega)]
      exact hPq q hq
  have gc := (goC (z := z) (X := Q) (o := o) ⟨1, by decide, by decide, by rw [t 8 7 o (by omega) (by omega) (by omega)]; exact hst⟩ (by rw [n]; exact ho) (by rw [t 8 1 o (by omega) (by omega) (by omega)]; exact hmd) (by rw [t 8 13 o (by omega) (by omega) (by omega)]; exact h13) (fun l hl e => by
    rw [n] at hl
    rw [t 6 3 l (by omega) (by omega) (by omega), eOLQ] at e
    exact q2 l hl (by omega)) (by rw [t 8 5 o (by omega) (by omega) (by omega)]; exact hOo.2.2.2.2.2.1.1) (by
    rw [t 8 1 o (by omega) (by omega) (by omega)]
    obtain ⟨p, -, e⟩ := hOo.2.1
    omega) (fun _ => by
    rw [t88]
    have := hOo.2.2.1.1
    omega))
  have hs := gc.1.toG hLs (fun q hq => by
    rw [n] at hq
    rw [t 8 2 q (by omega) (by omega) (by omega)]
    exact (hI.or q hq).2.2.1.2) hPQ
  generalize fGoOn z Q o = G at *
  obtain ⟨⟨a1, a2⟩, ⟨b1, b2⟩, ⟨c1, c2⟩, d, e, f⟩ := hs
  have dT : ∀ c : Nat, c = 2 ∨ c = 3 ∨ c = 4 ∨ c = 21 ∨ c = 24 ∨ c = 26 ∨ c = 27 → ceq T G c := fun c hc => ⟨((d c hc).1).trans (n c), fun j i => ((d c hc).2.1 j i).trans (t c j i (by omega) (by omega) (by omega)), fun i => ((d c hc).2.2 i).trans (E c i)⟩
  have s7 : ∀ q : Nat, q ≠ o → sT G 8 7 q = sT T 8 7 q := fun q hq => (h8 7 q (by omega)).trans (t 8 7 q (by omega) (by omega) (by omega))
  have s8 : ∀ q : Nat, q ≠ o → sT G 8 8 q = sT T 8 8 q := fun q hq => (h8 8 q (by omega)).trans (t 8 8 q (by omega) (by omega) (by omega))
  have g : gW z T G := by
    refine ⟨⟨by rw [← n 6]; exact a1, fun j l hl hj => (a2 j l (by rw [n]; exact hl) hj).trans (t 6 j l (by omega) (by omega) (by omega))⟩, ⟨by rw [b1, n]; exact Nat.le_refl _, fun j x _ hj => (b2 j x hj).trans (t 7 j x (by omega) (by omega) (by omega))⟩, ⟨by rw [c1, n]; exact Nat.le_refl _, fun j q _ hj => (c2 j q hj).trans (t 8 j q (by omega) (by omega) (by omega))⟩, ⟨Nat.le_of_eq (dT 4 (by decide)).1.symm, fun j c _ => (dT 4 (by decide)).2.1 j c⟩, ⟨Nat.le_of_eq (dT 2 (by decide)).1.symm, fun j c _ _ => (dT 2 (by decide)).2.1 j c⟩, ⟨Nat.le_of_eq (dT 3 (by decide)).1.symm, fun c _ => (dT 3 (by decide)).2.1 0 c⟩, pgr.same ((dT 21 (by decide)).2.2 0), fun i _ => ⟨[], by rw [(dT 24 (by decide)).2.2 i, List.append_nil]⟩, fun q s hq h2 h6 hs => ?_, fun q _ _ => (dT 27 (by decide)).2.2 _, fun l _ => (dT 26 (by decide)).2.2 _⟩
    have hne := q3 q s h2 h6 hs
    exact ⟨⟨s, ⟨h2, fun _ => Nat.le_refl _⟩, h6, by rw [s7 q hne]; exact hs⟩, (dT 26 (by decide)).2.2 _, by rw [s8 q hne]; exact Int.le_refl _, fun w => by
      have e13 := t 8 13 q (by omega) (by omega) (by omega)
      rw [← e13] at w ⊢
      exact e q w⟩
  have n8 : sn G 8 = sn T 8 := c1.trans (n 8)
  refine ⟨g, ⟨fun p q hp hq x hx u hu => ?_, f.lt hz hI2.or, fun p hp hne => ?_⟩, fun p hp hne => ?_, fun p hp => ?_⟩
  · rw [n8] at hp hq
    rw [g.oL hp, (dT 26 (by decide)).2.2] at hx
    rw [g.dL hq, (dT 27 (by decide)).2.2] at hu
    exact hD p q hp hq x hx u hu
  · rw [n8] at hp
    rw [g.oL hp, (dT 26 (by decide)).2.2] at hne
    exact (hC p hp hne).gW g hI.pt hI.lo hI.or hI.tk hp (hM p hp hne) ((dT 26 (by decide)).2.2 _)
  · rw [n8] at hp
    rw [g.oL hp, (dT 26 (by decide)).2.2] at hne
    rw [g.2.2.1.2 1 p hp (by decide)]
    exact hM p hp hne
  · rw [n8] at hp
    rw [g.2.2.1.2 2 p hp (by decide)]
    by_cases e : p = o
    · rw [e, h8 8 o (by omega), t88]; exact Int.le_refl _
    · rw [s8 p e]
      exact hPq p hp
theorem relZW (hz : zInj z) (hRr : rR z S Y) (hI : iAll z k S) (hMS : mShape Y) (hB : mBox Y) (hR : iRn z S) (hk : k ≤ 1000) (ho8 : o < sn S 8) (hah : fAhead z S o = true) (hmd : (sT S 8 1 o).toNat % 2 = 0) (hok : (fRelT z S o).2.1 = true) : gRn z S (fRelZ z (fRelU (fRelT z S o).1 o) o) := by
  have gT := relTW hz hI hR ho8 hmd
  obtain ⟨⟨t1, t2, t3, t4, t5, t6, t7, t8, t9, t10, t11, t12⟩, -, -, tst⟩ := pairRelT hz hRr hI hR.1.1 hMS hB ho8 hah hmd
  have hst := tst hok
  generalize (fRelT z S o).1 = T at *
  generalize (mRelT Y o).1 = U at *
  have ho' : o < sn T 8 := by rw [t11]; exact ho8
  obtain ⟨⟨g1, g2, g3, g4, g5, g6, g7, g8, g9, g10, g11, g12, g13⟩, -, -⟩ := pairRelP hz t1 t2 t3 t4 t5 ho' hst (by rw [t12]; exact hmd) hk
  have gG := relGW hz t2 gT.2 ho' hst (by rw [t12]; exact hmd) g2 g12
  have hcst := g2.co.2.2.2.2.2
  unfold fRelZ
  generalize fGoOn z (fRelQ (fRelU T o) o) o = G at *
  generalize mGoOn (mRelQ (mRelU U o) o) o = M at *
  obtain ⟨⟨b1, b2, b3, b4, b5, b6, b7, b8, b9, b10, b11, b12, b13, b14⟩, -⟩ := pairBegT hz g1 (g2.mono (Nat.le_succ _)) g3 g4 (by push_cast; omega)
  exact (gT.trans gG).trans (jobsW hz b12 b13 g2 b2 gG.2)
theorem stRl {v : Int} (hz : zInj z) (hRr : rR z S S) (hI : iAll z k S) (hMS : mShape S) (hB : mBox S) (hI2 : iAll z k2 S2) (hR : iRn z S) (hk : k ≤ 1000) (h : pRl z S S2 v) : gRn z S S2 := by
  rcases h with ⟨v, rfl⟩ | ⟨hc, hok, h⟩ | ⟨hc, hok, h⟩
  · exact .mt hI hR
  · unfold cRl at hc
    rw [Bool.and_eq_true, Bool.and_eq_true] at hc
    obtain ⟨o, ho, ho8⟩ := idx (of_decide_eq_true hc.1)
    have eo : v.toNat = o := by omega
    rw [eo] at hc hok h
    have hmd : (sT S 8 1 o).toNat % 2 = 0 := of_decide_eq_true hc.2.1
    have hah := hc.2.2
    have gT := relTW hz hI hR ho8 hmd
    have t6 := (pairRelT hz hRr hI hR.1.1 hMS hB ho8 hah hmd).1.2.2.2.2.2.1
    have hR1 := hRr.frY hMS hB t6
    have u7 := (pairRelT hz hR1 hI hR.1.1 (hMS.fr t6) (hB.fr t6) ho8 hah hmd).1.2.2.2.2.2.2.1
    rw [← h] at u7
    exact gT.fr2 u7 hI2
  · unfold cRl at hc
    rw [Bool.and_eq_true, Bool.and_eq_true] at hc
    obtain ⟨o, ho, ho8⟩ := idx (of_decide_eq_true hc.1)
    have eo : v.toNat = o := by omega
    rw [eo] at hc hok h
    have hmd : (sT S 8 1 o).toNat % 2 = 0 := of_decide_eq_true hc.2.1
    have hah := hc.2.2
    have gZ := relZW hz hRr hI hMS hB hR hk ho8 hah hmd hok
    have t6 := (pairRel hz hRr hI hR.1.1 hMS hB ho8 hah hmd hk hok).2.1.1
    have hR1 := hRr.frY hMS hB t6
    have v7 := (pairRel hz hR1 hI hR.1.1 (hMS.fr t6) (hB.fr t6) ho8 hah hmd hk hok).2.1.2.1
    unfold sRl at h
    rw [← h] at v7
    exact gZ.fr2 v7 hI2
end ZD8
