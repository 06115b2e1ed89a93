/-! THE SIMULATION: promise, the case -/
set_option maxRecDepth 100000
section ZBRC
variable {g : zG} {w0 : hG} {z : Nat → Nat} {a m ol od k scr n i : Nat} {sf : Nat → Int32} {S : hS} {gh : Nat → Nat → Nat} {J : zw_W} {σ : zS} {Q : Option Value ⊕ String → zS → Prop}
theorem iAll.sepNew {X : hS} {o : Nat} (hz : zInj z) (hI : iAll z k X) (ho : o < sn X 8) (h : fStg z X o 0 = true) : fSep X (fOL X o) ∧ sE X 26 (fOL X o) = [] := by
  have hst : sT X 8 7 o = (z 0 : Nat) := of_decide_eq_true h
  refine ⟨fun i hi e => ?_, (hI.em o ho).1 hst⟩
  have h5 := (hI.or o ho).2.2.2.2.2.1
  have e5 : sT X 8 5 o = (fOL X o : Nat) := (Int.toNat_of_nonneg h5.1).symm
  rcases hI.sp.2.2.1 i o hi ho (by omega) with q | q
  · rw [hst] at q
    exact absurd (hz 0 4 (by decide) (by decide) (by omega)) (by decide)
  · rw [hst] at q
    exact absurd (hz 0 5 (by decide) (by decide) (by omega)) (by decide)
theorem rR.madeO {X Y : hS} {o : Nat} (hR : rR z X Y) (ho : o < sn X 8) : mMadeO Y o = fMadeO X o := by
  obtain ⟨⟨p, p1, p2, p3⟩, -⟩ := (hR.O.2 o ho).1
  unfold mMadeO fMadeO
  rw [p2, p3, Int.toNat_natCast, Int.toNat_natCast]
  exact decide_eq_decide.mpr (hR.mdIff p1)
def cPr (z : Nat → Nat) (S : hS) (v : Int) : Bool := decide (0 ≤ v ∧ v < sn S 8) && (fMadeO S v.toNat && fStg z S v.toNat 0)
def pPr (z : Nat → Nat) (S S2 : hS) (v : Int) : Prop := (∃ v : Int, S2 = mt S v) ∨ (cPr z S v = true ∧ S2 = (mRA (mt (fRA z S v.toNat).1 0) v.toNat).1)
def nPr (z : Nat → Nat) (S : hS) (v : Int) : Nat × Nat := if cPr z S v = true then ((fRA z S v.toNat).2.2.1 + (mRA (mt (fRA z S v.toNat).1 0) v.toNat).2.2.1, (fRA z S v.toNat).2.2.2 + (mRA (mt (fRA z S v.toNat).1 0) v.toNat).2.2.2) else (0, 0)
theorem tS16 (C : hCon g w0 z) (hz : zInj z) (L : lSt g w0 z a m ol od k S gh J σ) (hs : w0.1 scr = some (.inl (8, n, .inl sf))) (hlt : scr < zg_n g) (hi : i + 5 < n) (hn : n ≤ 1000)
    (hQ : ∀ (S2 : hS) (gh2 : Nat → Nat → Nat) (J2 : zw_W) (σ2 : zS), pPr z S S2 (scw sf i 1) → lSt g w0 z a m ol od (k + 1) S2 gh2 J2 σ2 → kc σ σ2 (1 + (nPr z S (scw sf i 1)).1) (6 + (nPr z S (scw sf i 1)).2) → tW g 1600 2441 (tLV scr a m ol od i) [] σ2 Q) : tW g 1600 1350 (tLV scr a m ol od i) [] σ Q := by
  have L0 := L
  obtain ⟨H, ⟨f, hf⟩, ⟨fd, hfd⟩, ha, hm, hC, hR, hI, hS, hB⟩ := L
  have hne := ol_ne hf hfd
  have h1 : rg (scw sf i 1) := rg_scw
  have hnM : sn S 15 = sn S 8 := hR.O.1
  by_cases hc : 0 ≤ scw sf i 1 ∧ scw sf i 1 < sn S 8
  · obtain ⟨o, ho, ho8⟩ := idx hc
    have eo : (scw sf i 1).toNat = o := by omega
    have hcM : 0 ≤ scw sf i 1 ∧ scw sf i 1 < sn S 15 := by rw [hnM]; exact hc
    have ecP : cPr z S (scw sf i 1) = (fMadeO S o && fStg z S o 0) := by
      unfold cPr
      rw [decide_eq_true hc, Bool.true_and, eo]
    obtain ⟨r, σ0, r1, hr⟩ := F_promise (o := o) H C hI.fix hI.W hI.Av hI.Tk hI.Part hI.Cmp hI.Ord (hI.Oq ho8) (fun h => hI.sepNew hz ho8 h) ha ho8
    rw [← ho] at r1
    have codeM : ∀ T, rR z S T → mPromC T (scw sf i 1) = if (fMadeO S o && fStg z S o 0) = true then 0 else 2 := fun T hT => by
      unfold mPromC mC2
      rw [if_neg (show ¬ ¬ (0 ≤ scw sf i 1 ∧ scw sf i 1 < sn T 15) from fun w => w (by rw [hT.O.1]; exact hc)), eo, hT.madeO ho8]
      have e : decide (sT T 15 5 o = 45) = fStg z S o 0 := decide_eq_decide.mpr (hT.stIff hz ho8 (s := 0) (by decide))
      rw [e]
    rcases hr with ⟨hk0, rfl, H0, k0⟩ | ⟨hk0, rfl, gh1, hg1, H0, k0, -⟩
    · have p1 := Lh_promiseX2 (d := 109) (b := ol) H ha r1 (by omega)
      obtain ⟨r2, σ2, p2, hr2⟩ := M_promise H0 hC hS.1 (hR.mW hI hS) (hR.mAv hI) (hR.mPart hI hS) (hR.mCmp hI hS) (hR.mOrd hS) (hR.mOrd2 hI hS) (hR.mOq hI) (hR.mNew hz hI) hm h1
      rw [codeM S hR, hk0, if_neg (by decide)] at hr2
      rcases hr2 with ⟨-, rfl, H2, e2⟩ | ⟨hx, -⟩
      · refine tC16 (v := false) (f := f) H hs hlt hi hn p1 (by decide) H0 hm p2 (by decide) (by decide) H2 hm ⟨by decide, by decide⟩ (by rw [sT_set, if_pos ⟨rfl, rfl, rfl⟩]) (fun e => absurd e (by decide)) ?_
        refine hQ _ _ _ σ2 (Or.inl ⟨_, rfl⟩) (L0.quiet ffr.refl mfr.refl (gext_rfl (S := S)) (fun _ => Nat.le_refl _) H2 ⟨f, hf⟩ ⟨fd, hfd⟩) ?_
        exact (k0.trans e2).mono (by omega) (by omega)
      · exact absurd hx (by decide)
    · have hkk := hk0
      rw [Bool.and_eq_true] at hkk
      have hst : sT S 8 7 o = (z 0 : Nat) := of_decide_eq_true hkk.2
      have hmd : (sT S 8 1 o).toNat % 2 = 0 := of_decide_eq_true hkk.1
      have en : nPr z S (scw sf i 1) = ((fRA z S o).2.2.1 + (mRA (mt (fRA z S o).1 0) o).2.2.1, (fRA z S o).2.2.2 + (mRA (mt (fRA z S o).1 0) o).2.2.2) := by
        unfold nPr
        rw [ecP, hk0, if_pos rfl, eo]
      rw [en] at hQ
      dsimp only at hQ
      -- what Foundrymark's side does to the model's: nothing
      have c0 := pairRA hz hR hI hS hB ho8 hst hmd
      have fm := c0.2.2.2.2.2.2.1.1
      have hle := c0.2.2.2.2.2.2.2.1
      have hmS := hS.fr fm
      have hR1 := hR.frY hS hB fm
      have hR2 := hR.frY hS hB (fm.trans (mfr.mt (v := 0)))
      have hS2 := hS.fr (fm.trans (mfr.mt (v := 0)))
      have hB2 := hB.fr (fm.trans (mfr.mt (v := 0)))
      obtain ⟨c1, c2, c3, c4, c5, ⟨c6, c6'⟩, ⟨-, c7⟩, -, c8, c9⟩ := pairRA (Y := mt (fRA z S o).1 0) hz hR2 hI hS2 hB2 ho8 hst hmd
      obtain ⟨σ1, p1, H1, e1⟩ := Lh_promise (d := 109) H ha r1 (by omega) H0 hf
      have hm1 := hg1.hat hle hm
      have hC1 : hCache g w0 gh1 (fRA z S o).1 := hC.ext hg1 (hle 19) (fun j hj => fm.2.1 19 0 j (by decide) (by omega))
      obtain ⟨r2, σ2, p2, hr2⟩ := M_promise H1 hC1 hmS.1 (hR1.mW hI hmS) (hR1.mAv hI) (hR1.mPart hI hmS) (hR1.mCmp hI hmS) (hR1.mOrd hmS) (hR1.mOrd2 hI hmS) (hR1.mOq hI) (hR1.mNew hz hI) hm1 h1
      rw [codeM _ hR1, hk0, if_pos rfl, eo] at hr2
      rcases hr2 with ⟨hx, -⟩ | ⟨-, rfl, gh2, hg2, H2, e2, -⟩
      · exact absurd rfl hx
      · rw [c5] at p2
        refine tC16 H hs hlt hi hn p1 (by decide) H1 hm1 p2 (by decide) (by decide) H2 (hg2.hat (S1 := (mRA (mt (fRA z S o).1 0) o).1) c8 hm1) ⟨by decide, by decide⟩ (c9.trans (by rw [sT_set, if_pos ⟨rfl, rfl, rfl⟩])) (fun _ => ⟨zw_up_same _ _ _, va_up_self _ _ _⟩) ?_
        refine hQ (mRA (mt (fRA z S o).1 0) o).1 _ _ σ2 (Or.inr ⟨by rw [ecP]; exact hk0, by rw [eo]⟩) (L0.chg (hg1.trans hg2 hle) (fun c => Nat.le_trans (hle c) (c8 c)) c1 (c2.mono (Nat.le_succ _)) c3 c4 (ffr.mt.trans c7) H2 ⟨_, zw_up_same _ _ _⟩ ⟨fd, (zw_up_ne _ _ hne).trans hfd⟩) ?_
        exact ((k0.trans (kc.of e1)).trans e2).mono (by omega) (by omega)
  · obtain ⟨σ1, r1, H1, k1⟩ := F_promiseX H hI.fix ha h1 hc
    have p1 := Lh_promiseX1 (d := 109) (b := ol) H ha r1 (by omega)
    obtain ⟨r2, σ2, p2, hr2⟩ := M_promise H1 hC hS.1 (hR.mW hI hS) (hR.mAv hI) (hR.mPart hI hS) (hR.mCmp hI hS) (hR.mOrd hS) (hR.mOrd2 hI hS) (hR.mOq hI) (hR.mNew hz hI) hm h1
    have ec : mPromC S (scw sf i 1) = 1 := by
      unfold mPromC mC2
      rw [if_pos (show ¬ (0 ≤ scw sf i 1 ∧ scw sf i 1 < sn S 15) by rw [hnM]; exact hc)]
    rw [ec] at hr2
    rcases hr2 with ⟨-, rfl, H2, e2⟩ | ⟨hx, -⟩
    · refine tC16 (v := false) (f := f) H hs hlt hi hn p1 (by decide) H1 hm p2 (by decide) (by decide) H2 hm ⟨by decide, by decide⟩ (by rw [sT_set, if_pos ⟨rfl, rfl, rfl⟩]) (fun e => absurd e (by decide)) ?_
      refine hQ _ _ _ σ2 (Or.inl ⟨1, rfl⟩) (L0.quiet ffr.refl mfr.refl (gext_rfl (S := S)) (fun _ => Nat.le_refl _) H2 ⟨f, hf⟩ ⟨fd, hfd⟩) ?_
      exact (k1.trans e2).mono (by omega) (by omega)
    · exact absurd hx (by decide)
end ZBRC
