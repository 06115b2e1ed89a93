/-! THE ACCOUNT: it holds along every chain of calls -/
set_option maxRecDepth 100000
section ZG19
variable {z : Nat → Nat} {k x s v T U : Nat} {S S2 : hS} {c : Ctr}
theorem MG_p (X : hS) : 4700 ≤ MG X ∧ 2 * mx (np X) (EWs X) + 20 * sn X 6 + 31 ≤ MG X ∧ 2 * mx (np X) (sA X) + 4 * sn X 6 + 15 ≤ MG X ∧ 2 * mx (sn X 6) (nT X) + 1 ≤ MG X ∧ 2 * (1 + (sn X 8 + DT X)) + 1 ≤ MG X := by
  unfold MG
  omega
/-- promised orders are made ones -/
theorem prom_sb (hz : zInj z) (hI : iAll z k S) {o : Nat} (ho : o < sn S 8) (h : sT S 8 7 o = (z 1 : Nat)) : sb z S o = true := by
  have n0 : sT S 8 7 o ≠ (z 0 : Nat) := fun a => by
    have := hz 1 0 (by decide) (by decide) (by omega)
    omega
  refine decide_eq_true ⟨Decidable.byContradiction (fun hodd => ?_), n0⟩
  rcases (hI.or o ho).2.2.2.2.2.2.2.2.2.2.2.2.2.1 (by omega) with a | a
  · exact n0 a
  · have := hz 1 5 (by decide) (by decide) (by omega)
    omega
theorem HW_HX (hz : zInj z) (hI : iAll z k S) (hA : ∀ o : Nat, o < sn S 8 → sb z S o = true → c.2.2.2 o = true) : HW z S ≤ HX S c.2.2.2 := ns_le (fun p hp => ho_mono p _ _ (by
  unfold prN xN
  refine ns_le (fun o ho => ?_)
  by_cases w : prp z S p o = true
  · obtain ⟨w1, w2⟩ := of_decide_eq_true w
    rw [if_pos w, if_pos ⟨hA o ho (prom_sb hz hI ho w1), pO_at hI hp w2⟩]
    exact Nat.le_refl _
  · rw [if_neg w]; exact Nat.zero_le _))
theorem nPr_le2 (hz : zInj z) (hRr : rR z S S) (hI : iAll z k S) (hMS : mShape S) (hB : mBox S) (v : Int) (hc : cPr z S v = true) : v.toNat < sn S 8 ∧ (sT S 8 1 v.toNat).toNat % 2 = 0 ∧ (nPr z S v).1 ≤ 2 * EWs S (pO S v.toNat) + 20 * sn S 6 + 11 := by
  have hcc := hc
  unfold nPr
  rw [if_pos hc]
  unfold cPr at hc
  rw [Bool.and_eq_true, Bool.and_eq_true] at hc
  obtain ⟨o, ho, ho8⟩ := idx (of_decide_eq_true hc.1)
  have eo : v.toNat = o := by omega
  rw [eo] at hc ⊢
  have hmd : (sT S 8 1 o).toNat % 2 = 0 := of_decide_eq_true hc.2.1
  have hst : sT S 8 7 o = (z 0 : Nat) := of_decide_eq_true hc.2.2
  have fm := (pairRA hz hRr hI hMS hB ho8 hst hmd).2.2.2.2.2.2.1.1
  have hm := fm.trans (mfr.mt (v := 0))
  have h := raC hz (hRr.frY hMS hB hm) hI (hMS.fr hm) (hB.fr hm) ho8 hst hmd
  obtain ⟨p, hp, e1, e⟩ := cW_EW hI ho8 hmd
  rw [e] at h
  rw [pO_at hI hp e1]
  exact ⟨ho8, hmd, h⟩
theorem nxS_le (hI : iAll z k S) : nxS S ≤ 3 * (sn S 8 : Nat) := by
  unfold nxS
  have key : ∀ n : Nat, n ≤ sn S 8 → isum n (fun o => sT S 8 9 o) ≤ 3 * (n : Nat) := by
    intro n
    induction n with
    | zero => intro _; exact Int.le_refl _
    | succ n ih =>
      intro hn
      rw [isum_succ]
      have := ih (by omega)
      have h9 := (hI.or n (by omega)).2.2.2.2.2.2.2.2.2.1
      push_cast
      omega
  exact key _ (Nat.le_refl _)
theorem nxS_nn (hI : iAll z k S) : 0 ≤ nxS S := isum_nn (fun o ho => (hI.or o ho).2.2.2.2.2.2.2.2.2.1.1)
/-- calls that make nothing and change no stage but back to new -/
theorem quietQ (hz : zInj z) (hI : iAll z k S) (hI2 : iAll z (k + 1) S2) (g : gW z S S2) (hA : AccC z k S T c) (hk : kC z S S2) (hd : kD z S S2) (hx : x ≤ MG S2 + 9) : AccC z (k + 1) S2 (T + x) (cI_q c) := by
  have h81 : ∀ o : Nat, o < sn S 8 → sT S2 8 1 o = sT S 8 1 o := fun o ho => g.2.2.1.2 1 o ho (by decide)
  exact acc_q hz hI hI2 g hA (cb_cq hk.2 (fun o ho => (hk.1.ky hz h81 o ho).2)) hx (known hA g hd (fun o h1 h2 => by rw [hk.2.2.2.2.2] at h2; omega))
theorem quiet0 (hz : zInj z) (hI : iAll z k S) (hI2 : iAll z (k + 1) S2) (g : gW z S S2) (hA : AccC z k S T c) (hc : cn z S2 ≤ cn z S + 1) (hd : kD z S S2) (hn : ∀ o : Nat, sn S 8 ≤ o → o < sn S2 8 → sT S2 8 7 o = (z 0 : Nat)) (hx : x ≤ 9) : AccC z (k + 1) S2 (T + x) c :=
  acc_0 hz hI hI2 g hA (cb_of hz g hI.or hc) hx (known hA g hd hn) (fun o ho w => hd.rb (g.2.2.1.2 1 o ho (by decide)) w)
theorem newAP {cc : Bool} {f : Int} (h : pAP S S2 cc f) : sn S2 8 = sn S 8 := by
  rcases h with ⟨v, rfl⟩ | ⟨-, -, rfl⟩
  · rfl
  · exact (mAP_ffr.1 8 (by decide)).trans (fAP_ceq (by decide) (by decide) (by decide) (by decide) (by decide)).1
theorem newAC {p q r t : Int} (h : pcAC S S2 p q r t) : sn S2 8 = sn S 8 := by
  rcases h with ⟨v, rfl⟩ | ⟨-, rfl⟩
  · rfl
  · exact (cAC_ffr.1 8 (by decide)).trans (fAC_ceq (by decide) (by decide)).1
theorem newRc {p q cc u w : Int} (h : pRc z S S2 p q cc u w) : sn S2 8 = sn S 8 := by
  rcases h with ⟨v, rfl⟩ | ⟨-, is, rfl⟩
  · rfl
  · rw [fRecv_eq, mRecv_eq]
    generalize fIsR (fRl z S u.toNat) w = b
    have hf : ffr (fRefuse z (fL S p q cc b) u.toNat u.toNat (fRl z S u.toNat) w) (mSupS z (mL (fRefuse z (fL S p q cc b) u.toNat u.toNat (fRl z S u.toNat) w) p q cc is) u.toNat is) := mL_ffr.trans mSupS_ffr
    exact (hf.1 8 (by decide)).trans ((fRefuse_ceq (by decide)).1.trans (fL_ceq (by decide)).1)
theorem newOr {p qq o d : Int} (h : pOr z S S2 p qq o d) : ∀ i : Nat, sn S 8 ≤ i → i < sn S2 8 → sT S2 8 7 i = (z 0 : Nat) := by
  rcases h with ⟨v, rfl⟩ | ⟨-, rfl⟩
  · intro i h1 h2
    have h2 : i < sn S 8 := h2
    omega
  · have hf : ffr (fOrderS z S p qq o d) (mOrderS (fOrderS z S p qq o d) p qq o d) := mO_ffr
    intro i h1 h2
    rw [hf.1 8 (by decide), fO_n8] at h2
    have : i = sn S 8 := by omega
    rw [this, hf.2.1 8 7 _ (by decide)]
    exact fO_new (j := 7) (by decide)
/-- one call -/
theorem acc_step (hz : zInj z) (h1 : gd z k S) (h2 : gd z (k + 1) S2) (hk : k ≤ 1000) {c2 : Ctr} (h : St z S S2 x s c c2) (gg : gRn z S S2) (hA : AccC z k S T c) : AccC z (k + 1) S2 (T + x) c2 := by
  obtain ⟨hr, hI, hS, hB, hR⟩ := h1
  have hI2 := h2.2.1
  have g := gg.1
  have hM := MG_gW g hI
  obtain ⟨m1, m2, m3, m4, m5⟩ := MG_p S
  have h81 : ∀ o : Nat, o < sn S 8 → sT S2 8 1 o = sT S 8 1 o := fun o ho => g.2.2.1.2 1 o ho (by decide)
  have hrb : ∀ {o : Nat}, kD z S S2 → o < sn S 8 → rb z S2 o = true → rb z S o = true := fun hd ho w => hd.rb (h81 _ ho) w
  rcases h with h | h | h | h | h | h | h | h | h | h | h | h | h | h | h | h | h | h | h | h | h
  · obtain ⟨⟨hf, hx, -⟩, rfl⟩ := h
    exact quietQ hz hI hI2 g hA (.ff hf) (.ff hf) (by omega)
  · obtain ⟨⟨hf, v, rfl, -⟩, rfl⟩ := h
    have := nNd_le hI v
    exact quietQ hz hI hI2 g hA (.ff hf) (.ff hf) (by omega)
  · obtain ⟨⟨hf, u, v, rfl, -⟩, rfl⟩ := h
    have := nWk_le (S := S) u v
    exact quietQ hz hI hI2 g hA (.ff hf) (.ff hf) (by omega)
  · obtain ⟨⟨hf, v, rfl, -⟩, rfl⟩ := h
    have := nTch_le (S := S) v
    exact quietQ hz hI hI2 g hA (.ff hf) (.ff hf) (by omega)
  · obtain ⟨⟨hf, v, rfl, -⟩, rfl⟩ := h
    have := nLin_le hI v
    have hkC : kC z S S2 := .ff hf
    refine acc_n hz hI hI2 g hA (cb_cq hkC.2 (fun o ho => (hkC.1.ky hz h81 o ho).2)) (Or.inl ?_) (known hA g (.ff hf) (fun o a b => by rw [hf.1 8 (by decide)] at b; omega)) (fun o ho w => hrb (.ff hf) ho w)
    unfold smS
    omega
  · obtain ⟨⟨hf, rfl, -⟩, rfl⟩ := h
    have hs := snd_le2 hI
    have hkC : kC z S S2 := .ff hf
    refine acc_n hz hI hI2 g hA (cb_cq hkC.2 (fun o ho => (hkC.1.ky hz h81 o ho).2)) ?_ (known hA g (.ff hf) (fun o a b => by rw [hf.1 8 (by decide)] at b; omega)) (fun o ho w => hrb (.ff hf) ho w)
    by_cases hp : ∃ o : Nat, o < sn S 8 ∧ sT S 8 7 o = (z 1 : Nat)
    · obtain ⟨o, ho, ho1⟩ := hp
      refine Or.inr ⟨?_, o, ho, ho1, prom_sb hz hI ho ho1⟩
      have hp : fPwalk S (sn S 6) ≤ PW S := pw_le hI hR
      unfold smS
      omega
    · have hp := pw_zero hI (fun o ho w => hp ⟨o, ho, w⟩)
      refine Or.inl ?_
      unfold smS
      omega
  · obtain ⟨⟨⟨p, q, r, t, h⟩, rfl, -⟩, rfl⟩ := h
    exact quietQ hz hI hI2 g hA (cnAM h) (kdAM h) (by omega)
  · obtain ⟨⟨⟨cc, f, h⟩, rfl, -⟩, rfl⟩ := h
    exact quiet0 hz hI hI2 g hA (cnAP hI h) (kdAP h) (fun o a b => by rw [newAP h] at b; omega) (by omega)
  · obtain ⟨⟨⟨p, q, r, t, h⟩, rfl, -⟩, rfl⟩ := h
    exact quiet0 hz hI hI2 g hA (cnAC h) (kdAC h) (fun o a b => by rw [newAC h] at b; omega) (by omega)
  · obtain ⟨⟨⟨p, q, r, t, h⟩, rfl, -⟩, rfl⟩ := h
    exact quietQ hz hI hI2 g hA (cnAO h) (kdAO h) (by omega)
  · obtain ⟨⟨⟨p, q, cc, u, v, h⟩, rfl, -⟩, rfl⟩ := h
    exact quiet0 hz hI hI2 g hA (cnRc hI h) (kdRc h) (fun o a b => by rw [newRc h] at b; omega) (by omega)
  · obtain ⟨⟨v, on, h, rfl, -⟩, rfl⟩ := h
    have hx := nHo_le hz hI hR v on
    have hw := HW_HX hz hI hA.2.1
    have hkC := cnHo hz hr hI hS hB h
    have hd := kdHo hz hr hI hS hB h
    exact acc_h hz hI hI2 g hA (cb_cq hkC.2 (fun o ho => (hkC.1.ky hz h81 o ho).2)) (by omega) (known hA g hd (fun o a b => by rw [hkC.2.2.2.2.2] at b; omega)) (fun o ho w => hrb hd ho w)
  · obtain ⟨⟨⟨p, y, w, h⟩, rfl, -⟩, rfl⟩ := h
    exact quietQ hz hI hI2 g hA (cnSC h) (kdSC h) (by omega)
  · obtain ⟨⟨v, w, h, rfl, -⟩, rfl⟩ := h
    have hx := nMe_le hz hI hR v w
    have hw := HW_HX hz hI hA.2.1
    have hkC := cnMe hz hr hI hS hB h
    have hd := kdMe hz hr hI hS hB h
    exact acc_h hz hI hI2 g hA (cb_cq hkC.2 (fun o ho => (hkC.1.ky hz h81 o ho).2)) (by omega) (known hA g hd (fun o a b => by rw [hkC.2.2.2.2.2] at b; omega)) (fun o ho w => hrb hd ho w)
  · obtain ⟨⟨⟨p, q, o, d, h⟩, rfl, -⟩, rfl⟩ := h
    exact quiet0 hz hI hI2 g hA (cnOr hz h) (kdOr h) (newOr h) (by omega)
  · obtain ⟨v, ⟨h, rfl, -⟩, hc⟩ := h
    have hkC := cnPr hz hr hI hS hB h
    have hcb : cb z S2 ≤ cb z S := cb_cq hkC.2 (fun o ho => (hkC.1.ky hz h81 o ho).2)
    have h8 : ∀ o : Nat, o < sn S2 8 → o < sn S 8 := fun o w => by rw [hkC.2.2.2.2.2] at w; exact w
    have hso : ∀ o : Nat, o < sn S 8 → o ≠ v.toNat → sb z S2 o = true → sb z S o = true := fun o ho hne w => by
      rcases sbPr hz hr hI hS hB h with ⟨u, rfl⟩ | ⟨-, -, -, q4⟩
      · exact (kD.ff ffr.mt).sb (h81 o ho) w
      · obtain ⟨w1, w2⟩ := of_decide_eq_true w
        exact decide_eq_true ⟨by rw [← h81 o ho]; exact w1, by rw [← q4 o hne]; exact w2⟩
    rcases hc with ⟨hc, h0, rfl⟩ | ⟨hc, rfl⟩
    · obtain ⟨p1, p2, p3⟩ := nPr_le2 hz hr hI hS hB v hc
      exact acc_c hz hI hI2 g hA hcb p1 p2 h0 (by omega) h8 hso (fun o ho _ w => (hkC.1.ky hz h81 o ho).1 w)
    · have hx := nPr_le hz hr hI hS hB v
      refine acc_q hz hI hI2 g hA hcb (by omega) (fun o ho w => ?_)
      rcases sbPr hz hr hI hS hB h with ⟨u, rfl⟩ | ⟨q1, -, -, -⟩
      · exact hA.2.1 o (h8 o ho) ((kD.ff ffr.mt).sb (h81 o (h8 o ho)) w)
      · by_cases e : o = v.toNat
        · rw [e]; exact hc q1
        · exact hA.2.1 o (h8 o ho) (hso o (h8 o ho) e w)
  · obtain ⟨⟨⟨v, h⟩, rfl, -⟩, rfl⟩ := h
    exact quietQ hz hI hI2 g hA (cnWd h) (kdWd h) (by omega)
  · obtain ⟨v, ⟨h, rfl, -⟩, hc⟩ := h
    have hd5 := d5Rl hz hr hI hS hB hI2 hR hk h
    have hq : cq S S2 := by
      rcases sbRl hz hr hI hS hB hI2 hR hk h with ⟨u, rfl⟩ | ⟨-, -, -, q4, -⟩
      · exact .ff ffr.mt
      · exact q4
    have h8 : ∀ o : Nat, o < sn S2 8 → o < sn S 8 := fun o w => by rw [hq.2.2.2.2] at w; exact w
    have hcb : cb z S2 ≤ cb z S := cb_cq hq (fun o ho w => db_of hd5 (by rw [hq.2.2.2.2]; exact ho) w)
    have hso : ∀ o : Nat, o < sn S 8 → o ≠ v.toNat → (sb z S2 o = true → sb z S o = true) ∧ (rb z S2 o = true → rb z S o = true) := fun o ho hne => by
      rcases sbRl hz hr hI hS hB hI2 hR hk h with ⟨u, rfl⟩ | ⟨-, -, -, -, q5⟩
      · exact ⟨fun w => (kD.ff ffr.mt).sb (h81 o ho) w, fun w => (kD.ff ffr.mt).rb (h81 o ho) w⟩
      · exact q5 o ho hne
    rcases hc with ⟨hc, h0, rfl⟩ | ⟨hc, rfl⟩
    · have hc2 := hc
      unfold cRl at hc2
      rw [Bool.and_eq_true, Bool.and_eq_true] at hc2
      obtain ⟨o, ho, ho8⟩ := idx (of_decide_eq_true hc2.1)
      have eo : v.toNat = o := by omega
      rw [eo] at hc2 h0 hso ⊢
      have hmd : (sT S 8 1 o).toNat % 2 = 0 := of_decide_eq_true hc2.2.1
      have hx : (nRl z S v).1 ≤ 2 * EWs S (pO S o) + 20 * sn S 6 + 11 := by
        rcases nRl_le hz hr hI hR.1.1 hS hB hk v with a | ⟨o2, p, q1, q2, q3, q4, q5, q6⟩
        · omega
        · have : o2 = o := by omega
          rw [this] at q4
          rw [pO_at hI q3 q4]
          exact q6
      exact acc_c hz hI hI2 g hA hcb ho8 hmd h0 (by omega) h8 (fun o ho hne w => (hso o ho hne).1 w) (fun o ho hne w => (hso o ho hne).2 w)
    · have hx : (nRl z S v).1 ≤ 2 * mx (np S) (EWs S) + 20 * sn S 6 + 11 := by
        rcases nRl_le hz hr hI hR.1.1 hS hB hk v with a | ⟨o2, p, q1, q2, q3, q4, q5, q6⟩
        · omega
        · have := mx_ge (f := EWs S) q3
          omega
      refine acc_q hz hI hI2 g hA hcb (by omega) (fun o ho w => ?_)
      rcases sbRl hz hr hI hS hB hI2 hR hk h with ⟨u, rfl⟩ | ⟨q1, -, -, -, -⟩
      · exact hA.2.1 o (h8 o ho) ((kD.ff ffr.mt).sb (h81 o (h8 o ho)) w)
      · by_cases e : o = v.toNat
        · rw [e]; exact hc q1
        · exact hA.2.1 o (h8 o ho) ((hso o (h8 o ho) e).1 w)
  · obtain ⟨⟨⟨v, n, h⟩, rfl, -⟩, rfl⟩ := h
    obtain ⟨q1, q2⟩ := cnSc h
    exact acc_q hz hI hI2 g hA (cb_cq q1 (fun o ho w => by
      unfold db at w ⊢
      rw [q2 7 o (Or.inr rfl)] at w
      exact w)) (by omega) (known hA g (kdSc h) (fun o a b => by rw [q1.2.2.2.2] at b; omega))
  · obtain ⟨⟨e, h, rfl, -⟩, rfl⟩ := h
    have he : e ≤ 90 := by
      have h30 := hI2.fix.2.2.2.2.2.2.2.2.2.2.2.1
      have a1 := nxS_le hI2
      have a2 := nxS_nn hI
      rcases h with ⟨-, w⟩ | ⟨-, -, w⟩
      · omega
      · omega
    have hq : cq S S2 := by
      rcases h with ⟨⟨u, rfl⟩, -⟩ | ⟨w, -, -⟩
      · exact .ff ffr.mt
      · exact (w.low hz hR.2.2).1
    refine acc_q hz hI hI2 g hA (cb_cq hq (fun o ho w => db_of (d5Ad hz h) (by rw [hq.2.2.2.2]; exact ho) w)) (by omega) (fun o ho w => ?_)
    rw [hq.2.2.2.2] at ho
    exact hA.2.1 o ho (sbAd hz hI hR h ho w)
  · obtain ⟨v, ⟨h, rfl, -⟩, hc⟩ := h
    obtain ⟨hq, -⟩ := sbDl hz hr hI hS hB hI2 hR h
    have h8 : ∀ o : Nat, o < sn S2 8 → o < sn S 8 := fun o w => by rw [hq.2.2.2.2] at w; exact w
    rcases hc with ⟨hst, rfl⟩ | ⟨⟨hv, hok, h5, hne⟩, rfl⟩
    · have hd : kD z S S2 := fun q => Or.inl (hst q)
      have hx : (nDl z S v).1 ≤ 2 * mx (np S) (sA S) + 4 * sn S 6 + 5 := by
        rcases nDl_le (v := v) hr hI hS hB with a | ⟨a, b⟩
        · omega
        · have := mx_ge (f := sA S) (pO_ex hI a).1
          omega
      refine acc_q hz hI hI2 g hA (cb_cq hq (fun o ho w => ?_)) (by omega) (known hA g hd (fun o a b => by rw [hq.2.2.2.2] at b; omega))
      unfold db at w ⊢
      rw [hst o] at w
      exact w
    · have hx : (nDl z S v).1 ≤ 2 * sA S (pO S v.toNat) + 4 * sn S 6 + 5 := by
        rcases nDl_le (v := v) hr hI hS hB with a | ⟨a, b⟩
        · omega
        · exact b
      have h4 : (sT S 8 1 v.toNat).toNat % 2 = 0 → sT S 8 7 v.toNat = (z 4 : Nat) := fun hm => by
        unfold fDelOk at hok
        rw [Bool.or_eq_true, Bool.and_eq_true] at hok
        rcases hok with a | a
        · have := of_decide_eq_true a.1
          omega
        · exact of_decide_eq_true a
      have hn5 : db z S v.toNat = false := decide_eq_false (fun a => by
        unfold fDelOk at hok
        rw [Bool.or_eq_true, Bool.and_eq_true] at hok
        rcases hok with b | b
        · have b := of_decide_eq_true b.2
          have := hz 5 0 (by decide) (by decide) (by omega)
          omega
        · have b := of_decide_eq_true b
          have := hz 5 4 (by decide) (by decide) (by omega)
          omega)
      refine acc_d hz hI hI2 g hA (cb_of hz g hI.or (cnDl hz hr hI hS hB hI2 hR h)) hv hn5 (decide_eq_true h5) (by omega) (fun o ho w => ?_) (fun o ho w => ?_)
      · refine hA.2.1 o (h8 o ho) ?_
        obtain ⟨w1, w2⟩ := of_decide_eq_true w
        rw [h81 o (h8 o ho)] at w1
        by_cases e : o = v.toNat
        · rw [e] at w1 ⊢
          refine decide_eq_true ⟨w1, fun a => ?_⟩
          have b := h4 w1
          have := hz 4 0 (by decide) (by decide) (by omega)
          omega
        · exact decide_eq_true ⟨w1, by rw [← hne o e]; exact w2⟩
      · obtain ⟨w1, w2, w3⟩ := of_decide_eq_true w
        rw [h81 o ho] at w1
        by_cases e : o = v.toNat
        · rw [e] at w1 ⊢
          have b := h4 w1
          refine decide_eq_true ⟨w1, fun a => ?_, fun a => ?_⟩
          · have := hz 4 0 (by decide) (by decide) (by omega)
            omega
          · have := hz 4 1 (by decide) (by decide) (by omega)
            omega
        · exact decide_eq_true ⟨w1, by rw [← hne o e]; exact w2, by rw [← hne o e]; exact w3⟩
theorem acc_zero : AccC z 0 (X0 (z 6)) 0 (0, 0, 0, fun _ => false) := by
  have n8 : sn (X0 (z 6)) 8 = 0 := rfl
  refine ⟨?_, fun o ho => nlt n8 ho, fun o w => absurd w Bool.false_ne_true, 0, Nat.le_refl _, Or.inl rfl, Nat.zero_le _⟩
  show 0 + 0 + 0 + cb z (X0 (z 6)) + chN (X0 (z 6)) (fun _ => false) ≤ 0
  exact Nat.le_refl 0
/-- the account, along every chain -/
theorem acc_all (hz : zInj z) : ∀ (k : Nat) (S : hS) (T U : Nat) (c : Ctr), k ≤ 1000 → ChC z k S T U c → AccC z k S T c
  | 0, S, T, U, c, _, ⟨a, b, _, d⟩ => by
    subst a b d
    exact acc_zero
  | k + 1, S2, T2, U2, c2, hk, ⟨S, T, U, x, s, c, h1, h2, h3, h4, h5, h6, h7⟩ => by
    rw [h6]
    exact acc_step hz h2 h3 (by omega) h4 h5 (acc_all hz k S T U c (by omega) h1)
end ZG19
