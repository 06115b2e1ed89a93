/-! THE ACCOUNT: every call raises the count by one at most; which ones -/
set_option maxRecDepth 100000
section ZG5
variable {z : Nat → Nat} {k k2 o l e : Nat} {X Y S S2 T G A B : hS}
theorem mt_kC {v : Int} : kC z S (mt S v) := .ff ffr.mt
theorem cnAM {p q r t : Int} (h : pAM S S2 p q r t) : kC z S S2 := by
  rcases h with ⟨v, rfl⟩ | ⟨-, -, rfl⟩
  · exact mt_kC
  · exact (kC.cl (fun c hc => fAM_ceq (by omega) (by omega) (by omega))).trans (.ff mAM_ffr)
theorem cnAO {p q r t : Int} (h : pcAO S S2 p q r t) : kC z S S2 := by
  rcases h with ⟨v, rfl⟩ | ⟨-, rfl⟩
  · exact mt_kC
  · exact (kC.cl (fun c hc => fAO_ceq (by omega) (by omega))).trans (.ff cAO_ffr)
theorem cnSC {p x w : Int} (h : pSC S S2 p x w) : kC z S S2 := by
  rcases h with ⟨v, rfl⟩ | ⟨-, rfl⟩
  · exact mt_kC
  · refine (chartS_chF.kC ?_).trans (.ff chartS_chM.fr)
    show 2 + _ % 2 = 2 ∨ 2 + _ % 2 = 3
    omega
theorem cnHo {v : Int} {on : Bool} (hz : zInj z) (hRr : rR z S S) (hI : iAll z k S) (hMS : mShape S) (hB : mBox S) (h : pHo z S S2 v on) : kC z S S2 := by
  rcases h with ⟨v, rfl⟩ | ⟨-, rfl⟩
  · exact mt_kC
  · obtain ⟨-, -, -, -, -, -, -, -, hf, -⟩ := pairHold (q := v.toNat) (on := on) hz hRr hI hMS hB
    exact ((hl_kC (i := v.toNat) (on := on)).trans (kC_lose (sn S 8))).trans (.ff hf)
theorem cnWd {v : Int} (h : pWd z S S2 v) : kC z S S2 := by
  rcases h with ⟨v, rfl⟩ | ⟨-, -, rfl⟩
  · exact mt_kC
  · exact (show kC z S (fFr z S v.toNat) from ⟨kE_fr, cq_fr⟩).trans (.ff ((ffr.mt (v := 0)).trans mFr_ffr))
theorem cnPr {v : Int} (hz : zInj z) (hRr : rR z S S) (hI : iAll z k S) (hMS : mShape S) (hB : mBox S) (h : pPr z S S2 v) : kC z S S2 := by
  rcases h with ⟨v, rfl⟩ | ⟨hc, rfl⟩
  · exact mt_kC
  · unfold cPr at hc
    rw [Bool.and_eq_true, Bool.and_eq_true] at hc
    obtain ⟨o, ho, ho8⟩ := idx (of_decide_eq_true hc.1)
    have eo : v.toNat = o := by omega
    rw [eo] at hc ⊢
    have hmd : (sT S 8 1 o).toNat % 2 = 0 := of_decide_eq_true hc.2.1
    have hst : sT S 8 7 o = (z 0 : Nat) := of_decide_eq_true hc.2.2
    have fm := (pairRA hz hRr hI hMS hB ho8 hst hmd).2.2.2.2.2.2.1.1
    have hR2 := hRr.frY hMS hB (fm.trans (mfr.mt (v := 0)))
    have hS2 := hMS.fr (fm.trans (mfr.mt (v := 0)))
    have hB2 := hB.fr (fm.trans (mfr.mt (v := 0)))
    have c7 := (pairRA (Y := mt (fRA z S o).1 0) hz hR2 hI hS2 hB2 ho8 hst hmd).2.2.2.2.2.2.1.2
    exact (ra_kC hz hI ho8 hmd hst).trans (.ff ((ffr.mt (X := (fRA z S o).1) (v := 0)).trans c7))
theorem cnMe {v w : Int} (hz : zInj z) (hRr : rR z S S) (hI : iAll z k S) (hMS : mShape S) (hB : mBox S) (h : pMe z S S2 v w) : kC z S S2 := by
  rcases h with ⟨v, rfl⟩ | ⟨hv, -, p', rfl⟩
  · exact mt_kC
  · obtain ⟨q, hq, hq6⟩ := idx hv
    have eq : v.toNat = q := by omega
    rw [eq]
    obtain ⟨p, hp, hqp⟩ := (hI.lo q hq6).2.1
    have eL : fLp S q = fPc S p := by
      unfold fLp
      rw [hqp]; rfl
    have eMS : fMeasS S q w = fHl (fOutS S (pcl S p) (pix S p) w) q (fOut S (pcl S p) (pix S p) w || fh S q) := by
      unfold fMeasS fHl fMeasOut
      unfold pcl pix
      rw [eL]
    have hcl : pcl S p = 2 ∨ pcl S p = 3 := by unfold pcl; omega
    have h1 : kC z S (fMeasS S q w) := by
      rw [eMS]
      exact ((outS_chF (c := pcl S p) (j := pix S p) (v := w)).kC hcl).trans hl_kC
    refine (h1.trans (kC_lose (z := z) (sn S 8))).trans (.ff ?_)
    generalize (fLoseN z (fMeasS S q w) (sn S 8)).1 = T
    have o1 : ∀ U : hS, ffr T U → ffr T (mOutS U p' w) := fun U hU => hU.trans outS_chM.fr
    unfold mMeasS
    split
    · have hL : ∀ (V : hS) (n : Nat), ffr V (mLoseN V n).1 := by
        intro V n
        induction n with
        | zero => exact .refl
        | succ n ih =>
          rw [mLoseN_succ']
          unfold mLoseStep
          split
          · exact ih.trans mFr_ffr
          · exact ih
      exact ((o1 _ ffr.mt).set (by decide)).trans (hL _ _)
    · exact o1 _ ffr.mt
theorem cnSc {v n : Int} (h : psSc z S S2 v n) : cq S S2 ∧ ∀ j o : Nat, j = 1 ∨ j = 7 → sT S2 8 j o = sT S 8 j o := by
  rcases h with ⟨v, rfl⟩ | ⟨-, -, rfl⟩
  · exact ⟨.ff ffr.mt, fun j o _ => ffr.mt.2.1 8 j o (by decide)⟩
  · have hf : ffr (sset S 8 8 v.toNat (sT S 8 8 v.toNat - n)) (sset (mt (sset S 8 8 v.toNat (sT S 8 8 v.toNat - n)) 0) 15 8 v.toNat (sT S 8 8 v.toNat - n)) := (ffr.mt (v := 0)).set (by decide)
    refine ⟨cq.trans (Y := sset S 8 8 v.toNat (sT S 8 8 v.toNat - n)) ⟨rfl, rfl, fun _ => rfl, by rw [sT_set, if_neg (by omega)], rfl⟩ (.ff hf), fun j o hj => ?_⟩
    rw [hf.2.1 8 j o (by decide), sT_set, if_neg (by omega)]
theorem cn_same (hq : cq S S2) (h : ∀ j o : Nat, j = 1 ∨ j = 7 → sT S2 8 j o = sT S 8 j o) : cn z S2 ≤ cn z S := cn_keep hq (fun o _ => by
  unfold rb db
  rw [h 1 o (Or.inl rfl), h 7 o (Or.inr rfl)]
  exact ⟨fun w => w, fun w => w⟩)
/-- jobs that end or begin: orders that aren't under way stay what they are -/
theorem shpC.low (hz : zInj z) (h : shpC z A B) (hp : ∀ i : Nat, i < sn A 8 → sT A 8 8 i ≤ sT A 8 2 i) :
    cq A B ∧ (∀ i : Nat, sT B 8 1 i = sT A 8 1 i) ∧ ∀ i : Nat, (sT A 8 7 i = (z 0 : Nat) ∨ sT A 8 7 i = (z 1 : Nat)) → sT A 8 8 i = 0 → sT B 8 7 i = sT A 8 7 i := by
  have key := h (fun C => cq A C ∧ (∀ i : Nat, sT C 8 1 i = sT A 8 1 i ∧ sT C 8 8 i = sT A 8 8 i) ∧ ∀ i : Nat, (sT A 8 7 i = (z 0 : Nat) ∨ sT A 8 7 i = (z 1 : Nat)) → sT A 8 8 i = 0 → sT C 8 7 i = sT A 8 7 i)
    (fun C D hs hq ⟨p1, p2, p3⟩ => by
      obtain ⟨k1, k2, k3, k4, k5, k6, k7, k8⟩ := hs
      obtain ⟨q1, q2⟩ := hq
      refine ⟨p1.trans ⟨(k1 21 (by decide)).2.2 0, (k1 2 (by decide)).1, fun i => (k1 24 (by decide)).2.2 i, k8, k6⟩, fun i => ⟨(k7 1 i (by decide)).trans (p2 i).1, (q1 i).trans (p2 i).2⟩, fun i hi h0 => ?_⟩
      have e := p3 i hi h0
      rcases q2 i with w | ⟨⟨s, s1, s4, hs⟩, w2, -⟩
      · exact w.trans e
      · rw [e] at hs w2
        rcases hi with u | u
        · have := hz 0 s (by decide) (by omega) (by omega)
          omega
        · have := w2 u
          rw [(p2 i).2] at this
          omega)
    (fun C q hf _ _ ⟨p1, p2, p3⟩ => by
      obtain ⟨f1, f2, f3, -⟩ := hf
      have u : ∀ c : Nat, c ≠ 6 → c ≠ 8 → c ≠ 22 → ceq C (fFiB z C q) c := fun c x y w => fB_c ⟨x, y, w⟩
      refine ⟨p1.trans ⟨(u 21 (by decide) (by decide) (by decide)).2.2 0, (u 2 (by decide) (by decide) (by decide)).1, fun i => (u 24 (by decide) (by decide) (by decide)).2.2 i, (u 0 (by decide) (by decide) (by decide)).2.1 5 0, fB_n8⟩, fun i => ⟨(fB_8 (by omega)).trans (p2 i).1, (fB_8 (by omega)).trans (p2 i).2⟩, fun i hi h0 => ?_⟩
      have hne : i ≠ q := fun w => by
        have := (p2 i).2
        rw [w] at this h0
        omega
      exact (fB_8 (by omega)).trans (p3 i hi h0))
    hp ⟨cq.refl, fun _ => ⟨rfl, rfl⟩, fun _ _ _ => rfl⟩
  exact ⟨key.1, fun i => (key.2.1 i).1, key.2.2⟩
theorem rb_low (hO : iOr z A) (h1 : ∀ i : Nat, sT B 8 1 i = sT A 8 1 i) (h : ∀ i : Nat, (sT A 8 7 i = (z 0 : Nat) ∨ sT A 8 7 i = (z 1 : Nat)) → sT A 8 8 i = 0 → sT B 8 7 i = sT A 8 7 i) (ho : o < sn A 8) (hb : rb z B o = true) : rb z A o = true := by
  unfold rb at hb ⊢
  rw [h1] at hb
  obtain ⟨w1, w2, w3⟩ := of_decide_eq_true hb
  have hz0 := (hO o ho).2.2.2.2.2.2.2.2.2.2.2.2.2.2.1
  refine decide_eq_true ⟨w1, fun w => w2 ?_, fun w => w3 ?_⟩
  · rw [h o (Or.inl w) (hz0 (Or.inl w)).2.1]; exact w
  · rw [h o (Or.inr w) (hz0 (Or.inr w)).2.1]; exact w
theorem db_of (h : d5 z X Y) (ho : o < sn Y 8) (hb : db z Y o = true) : db z X o = true := decide_eq_true (h o ho (of_decide_eq_true hb)).2
theorem cnAd {e : Nat} (hz : zInj z) (hI : iAll z k S) (hR : iRn z S) (h : pAd z S S2 e) : cn z S2 ≤ cn z S := by
  have hd := d5Ad hz h
  rcases h with ⟨⟨v, rfl⟩, -⟩ | ⟨h1, -, -⟩
  · exact cn_same (.ff ffr.mt) (fun j o _ => ffr.mt.2.1 8 j o (by decide))
  · obtain ⟨q1, q2, q3⟩ := h1.low hz hR.2.2
    exact cn_keep q1 (fun o ho => ⟨fun w => rb_low hI.or q2 q3 ho w, fun w => db_of hd (by rw [q1.2.2.2.2]; exact ho) w⟩)
theorem cnOr {p qq o d : Int} (hz : zInj z) (h : pOr z S S2 p qq o d) : cn z S2 ≤ cn z S + 1 := by
  rcases h with ⟨v, rfl⟩ | ⟨-, rfl⟩
  · exact Nat.le_succ_of_le (cn_same (.ff ffr.mt) (fun j o _ => ffr.mt.2.1 8 j o (by decide)))
  · have hf : ffr (fOrderS z S p qq o d) (mOrderS (fOrderS z S p qq o d) p qq o d) := mO_ffr
    refine Nat.le_trans (cn_same (.ff hf) (fun j o _ => hf.2.1 8 j o (by decide))) ?_
    have u : ∀ c : Nat, c ≠ 8 → c ≠ 23 → c ≠ 26 → c ≠ 27 → ceq S (fOrderS z S p qq o d) c := fun c h1 h2 h3 h4 => fO_ceq ⟨h1, h2, h3, h4⟩
    have n7 : sT (fOrderS z S p qq o d) 8 7 (sn S 8) = (z 0 : Nat) := fO_new (j := 7) (by decide)
    have e1 : np (fOrderS z S p qq o d) = np S := by
      show (sE (fOrderS z S p qq o d) 21 0).length = _
      rw [(u 21 (by decide) (by decide) (by decide) (by decide)).2.2]
    have e2 : cmN (fOrderS z S p qq o d) = cmN S := by
      unfold cmN
      rw [(u 2 (by decide) (by decide) (by decide) (by decide)).1]
      exact ns_cg (fun i _ => by rw [(u 24 (by decide) (by decide) (by decide) (by decide)).2.2])
    have e4 : sT (fOrderS z S p qq o d) 0 5 0 = sT S 0 5 0 := (u 0 (by decide) (by decide) (by decide) (by decide)).2.1 5 0
    have e5 : rlN z (fOrderS z S p qq o d) = rlN z S := by
      unfold rlN
      rw [fO_n8]
      show ns (sn S 8) _ + (if rb z (fOrderS z S p qq o d) (sn S 8) = true then 1 else 0) = _
      have : rb z (fOrderS z S p qq o d) (sn S 8) = false := decide_eq_false (fun w => w.2.1 n7)
      rw [this, if_neg Bool.false_ne_true, Nat.add_zero]
      exact ns_cg (fun q hq => by unfold rb; rw [fO_old (by omega), fO_old (by omega)])
    have e6 : dlN z (fOrderS z S p qq o d) = dlN z S := by
      unfold dlN
      rw [fO_n8]
      show ns (sn S 8) _ + (if db z (fOrderS z S p qq o d) (sn S 8) = true then 1 else 0) = _
      have : db z (fOrderS z S p qq o d) (sn S 8) = false := decide_eq_false (fun w => by
        rw [n7] at w
        have := hz 0 5 (by decide) (by decide) (by omega)
        omega)
      rw [this, if_neg Bool.false_ne_true, Nat.add_zero]
      exact ns_cg (fun q hq => by unfold db; rw [fO_old (by omega)])
    unfold cn
    rw [e1, e2, e4, e5, e6, fO_n8]
    omega
theorem cnAC {p q r t : Int} (h : pcAC S S2 p q r t) : cn z S2 ≤ cn z S + 1 := by
  rcases h with ⟨v, rfl⟩ | ⟨-, rfl⟩
  · exact Nat.le_succ_of_le (cn_same (.ff ffr.mt) (fun j o _ => ffr.mt.2.1 8 j o (by decide)))
  · have hf : ffr (fAddComponent S p q r t) (mAC (fAddComponent S p q r t) p q r t) := cAC_ffr
    refine Nat.le_trans (cn_same (.ff hf) (fun j o _ => hf.2.1 8 j o (by decide))) ?_
    have u : ∀ c : Nat, c ≠ 4 → c ≠ 24 → ceq S (fAddComponent S p q r t) c := fun c h1 h2 => fAC_ceq h1 h2
    have e1 : np (fAddComponent S p q r t) = np S := by
      show (sE (fAddComponent S p q r t) 21 0).length = _
      rw [(u 21 (by decide) (by decide)).2.2]
    have e2 : cmN (fAddComponent S p q r t) ≤ cmN S + 1 := by
      unfold cmN
      rw [(u 2 (by decide) (by decide)).1]
      refine ns_bump (e := fCl S p) (fun i _ => ?_)
      rw [fAC_24]
      by_cases w : i = fCl S p
      · rw [if_pos w, if_pos w, List.length_append, w]
        exact Nat.le_refl _
      · rw [if_neg w, if_neg w]
        exact Nat.le_refl _
    have u8 := u 8 (by decide) (by decide)
    have e5 : rlN z (fAddComponent S p q r t) = rlN z S := by
      unfold rlN
      rw [u8.1]
      exact ns_cg (fun q hq => by unfold rb; rw [u8.2.1, u8.2.1])
    have e6 : dlN z (fAddComponent S p q r t) = dlN z S := by
      unfold dlN
      rw [u8.1]
      exact ns_cg (fun q hq => by unfold db; rw [u8.2.1])
    unfold cn
    rw [e1, e5, e6, u8.1, (u 0 (by decide) (by decide)).2.1 5 0]
    omega
end ZG5
