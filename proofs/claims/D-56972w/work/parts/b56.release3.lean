/-! THE SIMULATION: release, the case -/
set_option maxRecDepth 100000
section ZBZ3
variable {g : zG} {w0 : hG} {z : Nat → Nat} {a m ol od k scr n i : Nat} {sf : Nat → Int32} {S : hS} {gh : Nat → Nat → Nat} {J : zw_W} {σ : zS} {Q : Option Value ⊕ String → zS → Prop}
def cRl (z : Nat → Nat) (S : hS) (v : Int) : Bool := decide (0 ≤ v ∧ v < sn S 8) && (fMadeO S v.toNat && fAhead z S v.toNat)
noncomputable def sRl (z : Nat → Nat) (S : hS) (o : Nat) : hS := fRelZ z (fRelU (fRelT z S o).1 o) o
def pRl (z : Nat → Nat) (S S2 : hS) (v : Int) : Prop := (∃ v : Int, S2 = mt S v) ∨ (cRl z S v = true ∧ (fRelT z S v.toNat).2.1 = false ∧ S2 = (mRelT (fRelT z S v.toNat).1 v.toNat).1) ∨
  (cRl z S v = true ∧ (fRelT z S v.toNat).2.1 = true ∧ S2 = mRelZ (mRelU (mRelT (sRl z S v.toNat) v.toNat).1 v.toNat) v.toNat)
noncomputable def nRl (z : Nat → Nat) (S : hS) (v : Int) : Nat × Nat := if cRl z S v = true then (if (fRelT z S v.toNat).2.1 = true then ((fRelT z S v.toNat).2.2.1 + (mRelT (fRelZ z (fRelU (fRelT z S v.toNat).1 v.toNat) v.toNat) v.toNat).2.2.1, (fRelT z S v.toNat).2.2.2 + (mRelT (fRelZ z (fRelU (fRelT z S v.toNat).1 v.toNat) v.toNat) v.toNat).2.2.2) else ((fRelT z S v.toNat).2.2.1 + (mRelT (fRelT z S v.toNat).1 v.toNat).2.2.1, (fRelT z S v.toNat).2.2.2 + (mRelT (fRelT z S v.toNat).1 v.toNat).2.2.2)) else (0, 0)
theorem tS18 (C : hCon g w0 z) (hz : zInj z) (L : lSt g w0 z a m ol od k S gh J σ) (hD : iDj S) (hk : k ≤ 1000) (hs : w0.1 scr = some (.inl (8, n, .inl sf))) (hlt : scr < zg_n g) (hi : i + 5 < n) (hn : n ≤ 1000)
    (hQ : ∀ (S2 : hS) (gh2 : Nat → Nat → Nat) (J2 : zw_W) (σ2 : zS), pRl z S S2 (scw sf i 1) → lSt g w0 z a m ol od (k + 1) S2 gh2 J2 σ2 → kc σ σ2 (20 + (nRl z S (scw sf i 1)).1) (2000 + (nRl z S (scw sf i 1)).2) → tW g 1600 2441 (tLV scr a m ol od i) [] σ2 Q) : tW g 1600 1469 (tLV scr a m ol od i) [] σ Q := by
  have L0 := L
  obtain ⟨H, ⟨f, hf⟩, ⟨fd, hfd⟩, ha, hm, hC, hR, hI, hS, hB⟩ := L
  have hne := ol_ne hf hfd
  have h1 : rg (scw sf i 1) := rg_scw
  have hnM : sn S 15 = sn S 8 := hR.O.1
  by_cases hc : 0 ≤ scw sf i 1 ∧ scw sf i 1 < sn S 8
  · obtain ⟨o, ho, ho8⟩ := idx hc
    have eo : (scw sf i 1).toNat = o := by omega
    have ecP : cRl z S (scw sf i 1) = (fMadeO S o && fAhead z S o) := by
      unfold cRl
      rw [decide_eq_true hc, Bool.true_and, eo]
    have codeM : ∀ T, rR z S T → mRelC T (scw sf i 1) = if (fMadeO S o && fAhead z S o) = true then 0 else 2 := fun T hT => by
      unfold mRelC mC2
      rw [if_neg (show ¬ ¬ (0 ≤ scw sf i 1 ∧ scw sf i 1 < sn T 15) from fun w => w (by rw [hT.O.1]; exact hc)), eo, hT.madeO ho8]
      have e : (!mRel T o) = fAhead z S o := by
        have e0 := hT.stIff hz ho8 (s := 0) (by decide)
        have e1 := hT.stIff hz ho8 (s := 1) (by decide)
        unfold mRel fAhead fStg
        by_cases a0 : sT S 8 7 o = (z 0 : Nat)
        · have : sT T 15 5 o = 45 := e0.mpr a0
          rw [decide_eq_true a0, this]; rfl
        · have n0 : sT T 15 5 o ≠ 45 := fun w => a0 (e0.mp w)
          by_cases a1 : sT S 8 7 o = (z 1 : Nat)
          · have : sT T 15 5 o = 112 := e1.mpr a1
            rw [decide_eq_false a0, decide_eq_true a1, this]; rfl
          · have n1 : sT T 15 5 o ≠ 112 := fun w => a1 (e1.mp w)
            rw [decide_eq_false a0, decide_eq_false a1]
            simp [n0, n1]
      rw [e]
    have hfull := fun (hah : fAhead z S o = true) (hmd : (sT S 8 1 o).toNat % 2 = 0) (hok : (fRelT z S o).2.1 = true) => pairRel hz hR hI hD hS hB ho8 hah hmd hk hok
    obtain ⟨r, σ0, r1, hr⟩ := F_release (o := o) H C hI.fix hI.W hI.Av hI.Tk hI.Part hI.Cmp hI.Ord (hI.Oq ho8) (fun h => hI.sepNew hz ho8 h) ha ho8 (fun hcond hok => by
      rw [Bool.and_eq_true] at hcond
      exact (hfull hcond.2 (of_decide_eq_true hcond.1) hok).2.2.1)
    rw [← ho] at r1
    rcases hr with ⟨hk0, rfl, H0, k0⟩ | ⟨hk0, hok, rfl, gh1, hg1, H0, k0⟩ | ⟨hk0, hok, rfl, gh1, hg1, H0, k0⟩
    · have p1 := Lh_releaseX2 (d := 111) (b := ol) H ha r1 (by omega)
      obtain ⟨r2, σ2, p2, hr2⟩ := M_release H0 hC hS.1 (hR.mW hI hS) (hR.mAv hI) (hR.mPart hI hS) (hR.mCmp hI hS) (hR.mOrd hS) (hR.mOrd2 hI hS) (hR.mOq hI) (hR.mNew hz hI) hm h1 (fun w => by
        rw [codeM S hR, hk0] at w
        exact absurd w (by decide))
      rw [codeM S hR, hk0, if_neg (by decide)] at hr2
      rcases hr2 with ⟨-, rfl, H2, e2⟩ | ⟨hx, -⟩ | ⟨hx, -⟩
      · refine tC18 (v := false) (f := f) H hs hlt hi hn p1 (by decide) H0 hm p2 (by decide) (by decide) H2 hm ⟨by decide, by decide⟩ (by rw [sT_set, if_pos ⟨rfl, rfl, rfl⟩]) (fun e => absurd e (by decide)) ?_
        refine hQ _ _ _ σ2 (Or.inl ⟨_, rfl⟩) (L0.quiet ffr.refl mfr.refl (gext_rfl (S := S)) (fun _ => Nat.le_refl _) H2 ⟨f, hf⟩ ⟨fd, hfd⟩) ?_
        exact (k0.trans e2).mono (by omega) (by omega)
      · exact absurd hx (by decide)
      · exact absurd hx (by decide)
    · -- it can't be reserved
      have hkk := hk0
      rw [Bool.and_eq_true] at hkk
      have hmd : (sT S 8 1 o).toNat % 2 = 0 := of_decide_eq_true hkk.1
      have en : nRl z S (scw sf i 1) = ((fRelT z S o).2.2.1 + (mRelT (fRelT z S o).1 o).2.2.1, (fRelT z S o).2.2.2 + (mRelT (fRelT z S o).1 o).2.2.2) := by
        unfold nRl
        rw [ecP, hk0, if_pos rfl, eo, if_neg (by rw [hok]; decide)]
      rw [en] at hQ
      dsimp only at hQ
      obtain ⟨⟨t1, t2, t3, t4, t5, t6, t7, t8, t9, t10, -⟩, -⟩ := pairRelT hz hR hI hD hS hB ho8 hkk.2 hmd
      have hmS := hS.fr t6
      have hmB := hB.fr t6
      have hR1 := hR.frY hS hB t6
      obtain ⟨⟨u1, u2, u3, u4, u5, u6, u7, u8, u9, u10, -⟩, u11, -, -⟩ := pairRelT hz hR1 hI hD hmS hmB ho8 hkk.2 hmd
      obtain ⟨σ1, p1, H1, e1⟩ := Lh_release (v := false) (d := 111) H ha r1 (by omega) H0 hf
      have hm1 := hg1.hat t8 hm
      have hC1 : hCache g w0 gh1 (fRelT z S o).1 := hC.ext hg1 (t8 19) (fun j hj => t6.2.1 19 0 j (by decide) (by omega))
      obtain ⟨r2, σ2, p2, hr2⟩ := M_release H1 hC1 hmS.1 (hR1.mW hI hmS) (hR1.mAv hI) (hR1.mPart hI hmS) (hR1.mCmp hI hmS) (hR1.mOrd hmS) (hR1.mOrd2 hI hmS) (hR1.mOq hI) (hR1.mNew hz hI) hm1 h1 (fun _ w => by
        rw [eo, u11, hok] at w
        exact absurd w (by decide))
      rw [codeM _ hR1, hk0, if_pos rfl, eo] at hr2
      rcases hr2 with ⟨hx, -⟩ | ⟨-, -, rfl, gh2, hg2, H2, e2⟩ | ⟨-, hx, -⟩
      · exact absurd rfl hx
      · refine tC18 (v := false) H hs hlt hi hn p1 (by decide) H1 hm1 p2 (by decide) (by decide) H2 (hg2.hat (S1 := (mRelT (fRelT z S o).1 o).1) u9 hm1) ⟨by decide, by decide⟩ u10 (fun _ => ⟨zw_up_same _ _ _, va_up_self _ _ _⟩) ?_
        refine hQ (mRelT (fRelT z S o).1 o).1 _ _ σ2 (Or.inr (Or.inl ⟨by rw [ecP]; exact hk0, by rw [eo]; exact hok, by rw [eo]⟩)) (L0.chg (hg1.trans hg2 t8) (fun c => Nat.le_trans (t8 c) (u9 c)) u1 (u2.mono (Nat.le_succ _)) u4 u5 u7 H2 ⟨_, zw_up_same _ _ _⟩ ⟨fd, (zw_up_ne _ _ hne).trans hfd⟩) ?_
        exact ((k0.trans (kc.of e1)).trans e2).mono (by omega) (by omega)
      · rw [u11, hok] at hx
        exact absurd hx (by decide)
    · -- it is released
      have hkk := hk0
      rw [Bool.and_eq_true] at hkk
      have hmd : (sT S 8 1 o).toNat % 2 = 0 := of_decide_eq_true hkk.1
      have en : nRl z S (scw sf i 1) = ((fRelT z S o).2.2.1 + (mRelT (fRelZ z (fRelU (fRelT z S o).1 o) o) o).2.2.1, (fRelT z S o).2.2.2 + (mRelT (fRelZ z (fRelU (fRelT z S o).1 o) o) o).2.2.2) := by
        unfold nRl
        rw [ecP, hk0, if_pos rfl, eo, if_pos hok]
      rw [en] at hQ
      dsimp only at hQ
      obtain ⟨-, ⟨t6, t7, t8, t9, t10⟩, -⟩ := hfull hkk.2 hmd hok
      have hmS := hS.fr t6
      have hmB := hB.fr t6
      have hR1 := hR.frY hS hB t6
      obtain ⟨-, u11, -, -⟩ := pairRelT hz hR1 hI hD hmS hmB ho8 hkk.2 hmd
      obtain ⟨⟨v1, v2, v3, v4⟩, ⟨v6, v7, v8, v9, v10⟩, -, q2, n5, l400⟩ := pairRel hz hR1 hI hD hmS hmB ho8 hkk.2 hmd hk hok
      obtain ⟨σ1, p1, H1, e1⟩ := Lh_release (v := true) (d := 111) H ha r1 (by omega) H0 hf
      generalize hS1 : fRelZ z (fRelU (fRelT z S o).1 o) o = S1 at *
      have hm1 := hg1.hat t8 hm
      have hC1 : hCache g w0 gh1 S1 := hC.ext hg1 (t8 19) (fun j hj => t6.2.1 19 0 j (by decide) (by omega))
      obtain ⟨r2, σ2, p2, hr2⟩ := M_release H1 hC1 hmS.1 (hR1.mW hI hmS) (hR1.mAv hI) (hR1.mPart hI hmS) (hR1.mCmp hI hmS) (hR1.mOrd hmS) (hR1.mOrd2 hI hmS) (hR1.mOq hI) (hR1.mNew hz hI) hm1 h1 (fun _ _ => by rw [eo]; exact q2)
      rw [codeM _ hR1, hk0, if_pos rfl, eo] at hr2
      rcases hr2 with ⟨hx, -⟩ | ⟨-, hx, -⟩ | ⟨-, -, rfl, gh2, hg2, H2, e2⟩
      · exact absurd rfl hx
      · rw [u11, hok] at hx
        exact absurd hx (by decide)
      · generalize hS2 : mRelZ (mRelU (mRelT S1 o).1 o) o = S2 at *
        refine tC18 (v := true) H hs hlt hi hn p1 (by decide) H1 hm1 p2 (by decide) (by decide) H2 (hg2.hat (S1 := S2) v9 hm1) ⟨by decide, by decide⟩ v10 (fun _ => ⟨zw_up_same _ _ _, va_up_self _ _ _⟩) ?_
        refine hQ S2 _ _ σ2 (Or.inr (Or.inr ⟨by rw [ecP]; exact hk0, by rw [eo]; exact hok, by rw [eo]; unfold sRl; rw [hS1, hS2]⟩)) (L0.chg (hg1.trans hg2 t8) (fun c => Nat.le_trans (t8 c) (v9 c)) v1 v2 v3 v4 v7 H2 ⟨_, zw_up_same _ _ _⟩ ⟨fd, (zw_up_ne _ _ hne).trans hfd⟩) ?_
        unfold mRelK at e2
        dsimp only at e2
        exact ((k0.trans (kc.of e1)).trans e2).mono (by omega) (by omega)
  · obtain ⟨σ1, r1, H1, k1⟩ := F_releaseX H hI.fix ha h1 hc
    have p1 := Lh_releaseX1 (d := 111) (b := ol) H ha r1 (by omega)
    have ec : mRelC S (scw sf i 1) = 1 := by
      unfold mRelC mC2
      rw [if_pos (show ¬ (0 ≤ scw sf i 1 ∧ scw sf i 1 < sn S 15) by rw [hnM]; exact hc)]
    obtain ⟨r2, σ2, p2, hr2⟩ := M_release H1 hC hS.1 (hR.mW hI hS) (hR.mAv hI) (hR.mPart hI hS) (hR.mCmp hI hS) (hR.mOrd hS) (hR.mOrd2 hI hS) (hR.mOq hI) (hR.mNew hz hI) hm h1 (fun w => by
      rw [ec] at w
      exact absurd w (by decide))
    rw [ec] at hr2
    rcases hr2 with ⟨-, rfl, H2, e2⟩ | ⟨hx, -⟩ | ⟨hx, -⟩
    · refine tC18 (v := false) (f := f) H hs hlt hi hn p1 (by decide) H1 hm p2 (by decide) (by decide) H2 hm ⟨by decide, by decide⟩ (by rw [sT_set, if_pos ⟨rfl, rfl, rfl⟩]) (fun e => absurd e (by decide)) ?_
      refine hQ _ _ _ σ2 (Or.inl ⟨1, rfl⟩) (L0.quiet ffr.refl mfr.refl (gext_rfl (S := S)) (fun _ => Nat.le_refl _) H2 ⟨f, hf⟩ ⟨fd, hfd⟩) ?_
      exact (k1.trans e2).mono (by omega) (by omega)
    · exact absurd hx (by decide)
    · exact absurd hx (by decide)
end ZBZ3
