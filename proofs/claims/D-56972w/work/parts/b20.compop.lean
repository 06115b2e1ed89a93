/-! THE SIMULATION: the cases addComponent, addOperation -/
set_option maxRecDepth 100000
section ZBLn
variable {z : Nat → Nat} {k : Nat} {X Y : hS} {p c n o m al t : Int}
theorem cAC_at (hc : fCompCode X p c n o = 0) : ∃ i : Nat, p = i ∧ i < np X ∧ fPc X (i : Nat) % 2 = 0 := by
  unfold fCompCode at hc
  by_cases h1 : fIsP X p ∧ fIsP X c
  · rw [if_neg (show ¬ ¬ (fIsP X p ∧ fIsP X c) from fun q => q h1)] at hc
    by_cases h2 : fPc X p % 2 = 0 ∧ c < p
    · obtain ⟨i, rfl, hi⟩ := idx h1.1
      exact ⟨i, rfl, hi, h2.1⟩
    · rw [if_pos h2] at hc
      cases hc
  · rw [if_pos h1] at hc
    cases hc
theorem cAO_at (hc : fOpCode X p m al t = 0) : ∃ i : Nat, p = i ∧ i < np X ∧ fPc X (i : Nat) % 2 = 0 := by
  unfold fOpCode at hc
  by_cases h1 : fIsP X p ∧ (0 ≤ m ∧ m < sn X 1) ∧ (al = -1 ∨ (0 ≤ al ∧ al < sn X 1))
  · rw [if_neg (show ¬ ¬ (fIsP X p ∧ (0 ≤ m ∧ m < sn X 1) ∧ (al = -1 ∨ (0 ≤ al ∧ al < sn X 1))) from fun q => q h1)] at hc
    by_cases h2 : fPc X p % 2 = 0
    · obtain ⟨i, rfl, hi⟩ := idx h1.1
      exact ⟨i, rfl, hi, h2⟩
    · rw [if_pos h2] at hc
      cases hc
  · rw [if_pos h1] at hc
    cases hc
theorem cAC_lens (hR : rR z X Y) (hI : iAll z k X) (hS : mShape Y) (hc : fCompCode X p c n o = 0) : (sE Y 36 (mClst Y p)).length = (sE X 24 (fCl X p)).length := by
  obtain ⟨i, rfl, hi, hm⟩ := cAC_at hc
  obtain ⟨m1, m2, m3, m4, m5, m6, m7, m8⟩ := hR.madeAt hI hS hi hm
  have hl := congrArg List.length m7
  rw [List.length_map, List.length_map] at hl
  rw [m4, m2]
  exact hl
theorem cAO_lens (hR : rR z X Y) (hI : iAll z k X) (hS : mShape Y) (hc : fOpCode X p m al t = 0) : (sE Y 37 (mOlst Y p)).length = (sE X 25 (fOl X p)).length := by
  obtain ⟨i, rfl, hi, hm⟩ := cAO_at hc
  obtain ⟨m1, m2, m3, m4, m5, m6, m7, m8⟩ := hR.madeAt hI hS hi hm
  have hl := congrArg List.length m8
  rw [List.length_map, List.length_map] at hl
  rw [m5, m3]
  exact hl
theorem cAC_len (hR : rR z X Y) (hI : iAll z k X) (hS : mShape Y) (hc : fCompCode X p c n o = 0) : (sE X 24 (fCl X p)).length ≤ 4 := by
  obtain ⟨i, rfl, hi, hm⟩ := cAC_at hc
  obtain ⟨m1, m2, -⟩ := hR.madeAt hI hS hi hm
  rw [m2]
  exact (hI.pt.2.2.2.1 _ m1).2.2.1
theorem cAO_len (hR : rR z X Y) (hI : iAll z k X) (hS : mShape Y) (hc : fOpCode X p m al t = 0) : (sE X 25 (fOl X p)).length ≤ 4 := by
  obtain ⟨i, rfl, hi, hm⟩ := cAO_at hc
  obtain ⟨m1, m2, m3, -⟩ := hR.madeAt hI hS hi hm
  rw [m3]
  have := (hI.pt.2.2.2.1 _ m1).2.2.2
  omega
end ZBLn
section ZBQ
variable {g : zG} {w0 : hG} {z : Nat → Nat} {a m ol od k scr n i : Nat} {sf : Nat → Int32} {S : hS} {gh : Nat → Nat → Nat} {J : zw_W} {σ : zS} {Q : Option Value ⊕ String → zS → Prop}
def pcAC (S S2 : hS) (p q r t : Int) : Prop := (∃ v : Int, S2 = mt S v) ∨ (fCompCode S p q r t = 0 ∧ S2 = mAC (fAddComponent S p q r t) p q r t)
theorem cAC_mfr {p q r t : Int} : mfr S (fAddComponent S p q r t) := by
  unfold fAddComponent kFComponent
  exact ((((mfr.refl.snw (by decide)).set (by decide)).set (by decide)).set (by decide)).ssE (by decide)
theorem cAC_ffr {Y : hS} {p q r t : Int} : ffr Y (mAC Y p q r t) := by
  unfold mAC mTri
  exact (((((ffr.mt).snw (by decide)).ssA (by decide)).ssA (by decide)).ssA (by decide)).ssE (by decide)
theorem cAC_le {p q r t : Int} : ∀ d : Nat, sn S d ≤ sn (fAddComponent S p q r t) d := fun d => sn_w_le (S := S) (c := 4) (xs := [])
theorem cAC_leM {Y : hS} {p q r t : Int} : ∀ d : Nat, sn Y d ≤ sn (mAC Y p q r t) d := fun d => sn_w_le (S := mt Y 0) (c := 46) (xs := List.replicate 3 0)
theorem tS2 (L : lSt g w0 z a m ol od k S gh J σ) (hs : w0.1 scr = some (.inl (8, n, .inl sf))) (hlt : scr < zg_n g) (hi : i + 5 < n) (hn : n ≤ 1000)
    (hQ : ∀ (S2 : hS) (gh2 : Nat → Nat → Nat) (J2 : zw_W) (σ2 : zS), pcAC S S2 (scw sf i 1) (scw sf i 2) (scw sf i 3) (scw sf i 4) → lSt g w0 z a m ol od (k + 1) S2 gh2 J2 σ2 → kc σ σ2 4 80 → tW g 1600 2441 (tLV scr a m ol od i) [] σ2 Q) : tW g 1600 376 (tLV scr a m ol od i) [] σ Q := by
  have L0 := L
  obtain ⟨H, ⟨f, hf⟩, ⟨fd, hfd⟩, ha, hm, hC, hR, hI, hS, hB⟩ := L
  have hne := ol_ne hf hfd
  have h1 : rg (scw sf i 1) := rg_scw
  have h2 : rg (scw sf i 2) := rg_scw
  have h3 : rg (scw sf i 3) := rg_scw
  have h4 : rg (scw sf i 4) := rg_scw
  have hmS := hS.fr (cAC_mfr (S := S) (p := (scw sf i 1)) (q := (scw sf i 2)) (r := (scw sf i 3)) (t := (scw sf i 4)))
  have hR1 : rR z S (fAddComponent S (scw sf i 1) (scw sf i 2) (scw sf i 3) (scw sf i 4)) := hR.frY hS hB cAC_mfr
  have hB1 := hB.fr (cAC_mfr (S := S) (p := (scw sf i 1)) (q := (scw sf i 2)) (r := (scw sf i 3)) (t := (scw sf i 4)))
  obtain ⟨o, σ0, r1, hr⟩ := F_addComponent H hI.fix hI.Part ha h1 h2 h3 h4
  rcases hr with ⟨hk, rfl, H0, k0⟩ | ⟨hk, rfl, gh1, hg1, H0, k0⟩
  · obtain ⟨σ2, p2, ghx, hgx, H2, e2⟩ := M_addComponent H0 hS.1 (hR.mPart hI hS) hm h1 h2 h3 h4
    have ec := compCode (p := (scw sf i 1)) (c := (scw sf i 2)) (n := (scw sf i 3)) (o := (scw sf i 4)) hR hI hS
    have hle : fCompCode S (scw sf i 1) (scw sf i 2) (scw sf i 3) (scw sf i 4) ≤ 4 := by
      unfold fCompCode
      repeat' split
      all_goals omega
    have hz : mCompCode S (scw sf i 1) (scw sf i 2) (scw sf i 3) (scw sf i 4) ≠ 0 := by omega
    unfold mAddComp at H2
    rw [if_neg hz] at p2 H2
    generalize fCompCode S (scw sf i 1) (scw sf i 2) (scw sf i 3) (scw sf i 4) = kk at *
    have fin : ∀ p1 : zEnd g 9 58 [.ref a, iv (scw sf i 1), iv (scw sf i 2), iv (scw sf i 3), iv (scw sf i 4), .ref ol] σ (.inl (some (iv ((kk : Nat) : Int)))) σ0, tW g 1600 376 (tLV scr a m ol od i) [] σ Q := by
      intro p1
      refine tC2 (f := f) H hs hlt hi hn p1 (by decide) H0 hm p2 (by decide) (by decide) H2 (hgx.hat (S1 := mt S _) (fun _ => Nat.le_refl _) hm) ⟨by omega, by omega⟩ ⟨by decide, by decide⟩ (by rw [sT_set, if_pos ⟨rfl, rfl, rfl⟩, ec]) (fun e => by omega) ?_
      refine hQ _ _ _ σ2 (Or.inl ⟨_, rfl⟩) (L0.quiet ffr.refl mfr.refl hgx (fun _ => Nat.le_refl _) H2 ⟨f, hf⟩ ⟨fd, hfd⟩) ?_
      exact (k0.trans e2).mono (by omega) (by omega)
    match kk, hk, hle with
    | 1, _, _ => exact fin (Lh_addComponentX1 (d := 9) (b := ol) H ha r1 (by omega))
    | 2, _, _ => exact fin (Lh_addComponentX2 (d := 9) (b := ol) H ha r1 (by omega))
    | 3, _, _ => exact fin (Lh_addComponentX3 (d := 9) (b := ol) H ha r1 (by omega))
    | 4, _, _ => exact fin (Lh_addComponentX4 (d := 9) (b := ol) H ha r1 (by omega))
  · have hlen : (sE S 24 (fCl S (scw sf i 1))).length ≤ 4 := cAC_len hR hI hS hk
    obtain ⟨σ1, p1, H1, e1⟩ := Lh_addComponent (d := 9) H ha r1 (by omega) H0 hf ⟨by omega, by omega⟩
    have hm1 := hg1.hat (cAC_le (p := (scw sf i 1)) (q := (scw sf i 2)) (r := (scw sf i 3)) (t := (scw sf i 4))) hm
    obtain ⟨σ2, p2, gh2, hg2, H2, e2⟩ := M_addComponent H1 hmS.1 (hR1.mPart hI hmS) hm1 h1 h2 h3 h4
    have ec := compCode (p := (scw sf i 1)) (c := (scw sf i 2)) (n := (scw sf i 3)) (o := (scw sf i 4)) hR1 hI hmS
    rw [hk] at ec
    have el : (sE (fAddComponent S (scw sf i 1) (scw sf i 2) (scw sf i 3) (scw sf i 4)) 36 (mClst (fAddComponent S (scw sf i 1) (scw sf i 2) (scw sf i 3) (scw sf i 4)) (scw sf i 1))).length = (sE S 24 (fCl S (scw sf i 1))).length := cAC_lens hR1 hI hmS hk
    have ec : mCompCode (fAddComponent S (scw sf i 1) (scw sf i 2) (scw sf i 3) (scw sf i 4)) (scw sf i 1) (scw sf i 2) (scw sf i 3) (scw sf i 4) = 0 := ec
    unfold mAddComp at H2
    rw [if_pos ec] at p2 H2
    rw [el] at p2
    obtain ⟨q1, q2, q3⟩ := pairAC hR1 hI hmS hk
    have q4 : mBox (mAC (fAddComponent S (scw sf i 1) (scw sf i 2) (scw sf i 3) (scw sf i 4)) (scw sf i 1) (scw sf i 2) (scw sf i 3) (scw sf i 4)) := hB1.cg (mAC_ceq (by decide) (by decide) (by decide)).1 (mAC_ceq (by decide) (by decide) (by decide)) (mAC_ceq (by decide) (by decide) (by decide))
    have hg : gext S gh gh2 := hg1.trans hg2 cAC_le
    refine tC2 H hs hlt hi hn p1 (by decide) H1 hm1 p2 (by decide) (by decide) H2 (hg2.hat cAC_leM hm1) ⟨by decide, by decide⟩ ⟨by omega, by omega⟩ (mAC_thrown) (fun _ => ⟨zw_up_same _ _ _, va_up_self _ _ _⟩) ?_
    refine hQ _ _ _ σ2 (Or.inr ⟨hk, rfl⟩) (L0.chg hg (fun c => Nat.le_trans (cAC_le c) (cAC_leM c)) q1 (q2.mono (Nat.le_succ _)) q3 q4 cAC_ffr H2 ⟨_, zw_up_same _ _ _⟩ ⟨fd, (zw_up_ne _ _ hne).trans hfd⟩) ?_
    exact ((k0.trans (kc.of e1)).trans e2).mono (by omega) (by omega)
def pcAO (S S2 : hS) (p q r t : Int) : Prop := (∃ v : Int, S2 = mt S v) ∨ (fOpCode S p q r t = 0 ∧ S2 = mAO (fAddOperation S p q r t) p q r t)
theorem cAO_mfr {p q r t : Int} : mfr S (fAddOperation S p q r t) := by
  unfold fAddOperation kFOperation
  exact ((((mfr.refl.snw (by decide)).set (by decide)).set (by decide)).set (by decide)).ssE (by decide)
theorem cAO_ffr {Y : hS} {p q r t : Int} : ffr Y (mAO Y p q r t) := by
  unfold mAO mTri
  exact (((((ffr.mt).snw (by decide)).ssA (by decide)).ssA (by decide)).ssA (by decide)).ssE (by decide)
theorem cAO_le {p q r t : Int} : ∀ d : Nat, sn S d ≤ sn (fAddOperation S p q r t) d := fun d => sn_w_le (S := S) (c := 5) (xs := [])
theorem cAO_leM {Y : hS} {p q r t : Int} : ∀ d : Nat, sn Y d ≤ sn (mAO Y p q r t) d := fun d => sn_w_le (S := mt Y 0) (c := 46) (xs := List.replicate 3 0)
theorem tS3 (L : lSt g w0 z a m ol od k S gh J σ) (hs : w0.1 scr = some (.inl (8, n, .inl sf))) (hlt : scr < zg_n g) (hi : i + 5 < n) (hn : n ≤ 1000)
    (hQ : ∀ (S2 : hS) (gh2 : Nat → Nat → Nat) (J2 : zw_W) (σ2 : zS), pcAO S S2 (scw sf i 1) (scw sf i 2) (scw sf i 3) (scw sf i 4) → lSt g w0 z a m ol od (k + 1) S2 gh2 J2 σ2 → kc σ σ2 4 80 → tW g 1600 2441 (tLV scr a m ol od i) [] σ2 Q) : tW g 1600 468 (tLV scr a m ol od i) [] σ Q := by
  have L0 := L
  obtain ⟨H, ⟨f, hf⟩, ⟨fd, hfd⟩, ha, hm, hC, hR, hI, hS, hB⟩ := L
  have hne := ol_ne hf hfd
  have h1 : rg (scw sf i 1) := rg_scw
  have h2 : rg (scw sf i 2) := rg_scw
  have h3 : rg (scw sf i 3) := rg_scw
  have h4 : rg (scw sf i 4) := rg_scw
  have hmS := hS.fr (cAO_mfr (S := S) (p := (scw sf i 1)) (q := (scw sf i 2)) (r := (scw sf i 3)) (t := (scw sf i 4)))
  have hR1 : rR z S (fAddOperation S (scw sf i 1) (scw sf i 2) (scw sf i 3) (scw sf i 4)) := hR.frY hS hB cAO_mfr
  have hB1 := hB.fr (cAO_mfr (S := S) (p := (scw sf i 1)) (q := (scw sf i 2)) (r := (scw sf i 3)) (t := (scw sf i 4)))
  obtain ⟨o, σ0, r1, hr⟩ := F_addOperation H hI.fix hI.Part ha h1 h2 h3 h4
  rcases hr with ⟨hk, rfl, H0, k0⟩ | ⟨hk, rfl, gh1, hg1, H0, k0⟩
  · obtain ⟨σ2, p2, ghx, hgx, H2, e2⟩ := M_addOperation H0 hS.1 (hR.mPart hI hS) hm h1 h2 h3 h4
    have ec := opCode (p := (scw sf i 1)) (m := (scw sf i 2)) (al := (scw sf i 3)) (t := (scw sf i 4)) hR hI hS
    have hle : fOpCode S (scw sf i 1) (scw sf i 2) (scw sf i 3) (scw sf i 4) ≤ 4 := by
      unfold fOpCode
      repeat' split
      all_goals omega
    have hz : mOpCode S (scw sf i 1) (scw sf i 2) (scw sf i 3) (scw sf i 4) ≠ 0 := by omega
    unfold mAddOp at H2
    rw [if_neg hz] at p2 H2
    generalize fOpCode S (scw sf i 1) (scw sf i 2) (scw sf i 3) (scw sf i 4) = kk at *
    have fin : ∀ p1 : zEnd g 9 69 [.ref a, iv (scw sf i 1), iv (scw sf i 2), iv (scw sf i 3), iv (scw sf i 4), .ref ol] σ (.inl (some (iv ((kk : Nat) : Int)))) σ0, tW g 1600 468 (tLV scr a m ol od i) [] σ Q := by
      intro p1
      refine tC3 (f := f) H hs hlt hi hn p1 (by decide) H0 hm p2 (by decide) (by decide) H2 (hgx.hat (S1 := mt S _) (fun _ => Nat.le_refl _) hm) ⟨by omega, by omega⟩ ⟨by decide, by decide⟩ (by rw [sT_set, if_pos ⟨rfl, rfl, rfl⟩, ec]) (fun e => by omega) ?_
      refine hQ _ _ _ σ2 (Or.inl ⟨_, rfl⟩) (L0.quiet ffr.refl mfr.refl hgx (fun _ => Nat.le_refl _) H2 ⟨f, hf⟩ ⟨fd, hfd⟩) ?_
      exact (k0.trans e2).mono (by omega) (by omega)
    match kk, hk, hle with
    | 1, _, _ => exact fin (Lh_addOperationX1 (d := 9) (b := ol) H ha r1 (by omega))
    | 2, _, _ => exact fin (Lh_addOperationX2 (d := 9) (b := ol) H ha r1 (by omega))
    | 3, _, _ => exact fin (Lh_addOperationX3 (d := 9) (b := ol) H ha r1 (by omega))
    | 4, _, _ => exact fin (Lh_addOperationX4 (d := 9) (b := ol) H ha r1 (by omega))
  · have hlen : (sE S 25 (fOl S (scw sf i 1))).length ≤ 4 := cAO_len hR hI hS hk
    obtain ⟨σ1, p1, H1, e1⟩ := Lh_addOperation (d := 9) H ha r1 (by omega) H0 hf ⟨by omega, by omega⟩
    have hm1 := hg1.hat (cAO_le (p := (scw sf i 1)) (q := (scw sf i 2)) (r := (scw sf i 3)) (t := (scw sf i 4))) hm
    obtain ⟨σ2, p2, gh2, hg2, H2, e2⟩ := M_addOperation H1 hmS.1 (hR1.mPart hI hmS) hm1 h1 h2 h3 h4
    have ec := opCode (p := (scw sf i 1)) (m := (scw sf i 2)) (al := (scw sf i 3)) (t := (scw sf i 4)) hR1 hI hmS
    rw [hk] at ec
    have el : (sE (fAddOperation S (scw sf i 1) (scw sf i 2) (scw sf i 3) (scw sf i 4)) 37 (mOlst (fAddOperation S (scw sf i 1) (scw sf i 2) (scw sf i 3) (scw sf i 4)) (scw sf i 1))).length = (sE S 25 (fOl S (scw sf i 1))).length := cAO_lens hR1 hI hmS hk
    have ec : mOpCode (fAddOperation S (scw sf i 1) (scw sf i 2) (scw sf i 3) (scw sf i 4)) (scw sf i 1) (scw sf i 2) (scw sf i 3) (scw sf i 4) = 0 := ec
    unfold mAddOp at H2
    rw [if_pos ec] at p2 H2
    rw [el] at p2
    obtain ⟨q1, q2, q3⟩ := pairAO hR1 hI hmS hk
    have q4 : mBox (mAO (fAddOperation S (scw sf i 1) (scw sf i 2) (scw sf i 3) (scw sf i 4)) (scw sf i 1) (scw sf i 2) (scw sf i 3) (scw sf i 4)) := hB1.cg (mAO_ceq (by decide) (by decide) (by decide)).1 (mAO_ceq (by decide) (by decide) (by decide)) (mAO_ceq (by decide) (by decide) (by decide))
    have hg : gext S gh gh2 := hg1.trans hg2 cAO_le
    refine tC3 H hs hlt hi hn p1 (by decide) H1 hm1 p2 (by decide) (by decide) H2 (hg2.hat cAO_leM hm1) ⟨by decide, by decide⟩ ⟨by omega, by omega⟩ (mAO_thrown) (fun _ => ⟨zw_up_same _ _ _, va_up_self _ _ _⟩) ?_
    refine hQ _ _ _ σ2 (Or.inr ⟨hk, rfl⟩) (L0.chg hg (fun c => Nat.le_trans (cAO_le c) (cAO_leM c)) q1 (q2.mono (Nat.le_succ _)) q3 q4 cAO_ffr H2 ⟨_, zw_up_same _ _ _⟩ ⟨fd, (zw_up_ne _ _ hne).trans hfd⟩) ?_
    exact ((k0.trans (kc.of e1)).trans e2).mono (by omega) (by omega)
end ZBQ
