/-! THE ACCOUNT: parts, lots that come in, releases, deliveries; the count of any call -/
set_option maxRecDepth 100000
section ZG6
variable {z : Nat → Nat} {k k2 o l e : Nat} {X Y S S2 T G A B : hS} {x s : Nat}
theorem cnAP {c : Bool} {f : Int} (hI : iAll z k S) (h : pAP S S2 c f) : cn z S2 ≤ cn z S + 1 := by
  rcases h with ⟨v, rfl⟩ | ⟨-, -, rfl⟩
  · exact Nat.le_succ_of_le (cn_same (.ff ffr.mt) (fun j o _ => ffr.mt.2.1 8 j o (by decide)))
  · have hf : ffr (fAddPart S c f) (mAP (fAddPart S c f) c f) := mAP_ffr
    refine Nat.le_trans (cn_same (.ff hf) (fun j o _ => hf.2.1 8 j o (by decide))) ?_
    have n24 := hI.pt.2.1
    have u : ∀ d : Nat, d ≠ 2 → d ≠ 3 → d ≠ 21 → d ≠ 24 → d ≠ 25 → ceq S (fAddPart S c f) d := fun d a b e f g => fAP_ceq a b e f g
    have u8 := u 8 (by decide) (by decide) (by decide) (by decide) (by decide)
    have e1 : np (fAddPart S c f) = np S + 1 := fAP_np
    have e2 : cmN (fAddPart S c f) = cmN S := by
      unfold cmN
      cases c with
      | true =>
        have n2 : sn (fAddPart S true f) 2 = sn S 2 + 1 := rfl
        rw [n2]
        show ns (sn S 2) _ + (sE (fAddPart S true f) 24 (sn S 2)).length = _
        have h1 : (sE (fAddPart S true f) 24 (sn S 2)).length = 0 := by
          rw [fAPm_E24, if_pos n24.symm]; rfl
        rw [h1, Nat.add_zero]
        exact ns_cg (fun i hi => by rw [fAPm_E24, if_neg (by omega)])
      | false =>
        rw [(fAP_bought (by decide) (by decide)).1]
        exact ns_cg (fun i _ => by rw [(fAP_bought (d := 24) (by decide) (by decide)).2.2])
    have e5 : rlN z (fAddPart S c f) = rlN z S := by
      unfold rlN
      rw [u8.1]
      exact ns_cg (fun q hq => by unfold rb; rw [u8.2.1, u8.2.1])
    have e6 : dlN z (fAddPart S c f) = dlN z S := by
      unfold dlN
      rw [u8.1]
      exact ns_cg (fun q hq => by unfold db; rw [u8.2.1])
    unfold cn
    rw [e1, e2, e5, e6, u8.1, (u 0 (by decide) (by decide) (by decide) (by decide) (by decide)).2.1 5 0]
    omega
theorem cnRc {p q c s v : Int} (hI : iAll z k S) (h : pRc z S S2 p q c s v) : cn z S2 ≤ cn z S + 1 := by
  rcases h with ⟨v, rfl⟩ | ⟨-, is, rfl⟩
  · exact Nat.le_succ_of_le (cn_same (.ff ffr.mt) (fun j o _ => ffr.mt.2.1 8 j o (by decide)))
  · rw [fRecv_eq, mRecv_eq]
    generalize fIsR (fRl z S s.toNat) v = b
    have hf : ffr (fRefuse z (fL S p q c b) s.toNat s.toNat (fRl z S s.toNat) v) (mSupS z (mL (fRefuse z (fL S p q c b) s.toNat s.toNat (fRl z S s.toNat) v) p q c is) s.toNat is) := mL_ffr.trans mSupS_ffr
    have hR : ∀ d : Nat, d ≠ 9 → d ≠ 28 → ceq (fL S p q c b) (fRefuse z (fL S p q c b) s.toNat s.toNat (fRl z S s.toNat) v) d := fun d a b => fRefuse_ceq ⟨a, b⟩
    have u : ∀ d : Nat, d ≠ 0 → d ≠ 6 → d ≠ 22 → d ≠ 26 → ceq S (fL S p q c b) d := fun d a1 a2 a3 a4 => fL_ceq ⟨a1, a2, a3, a4⟩
    refine Nat.le_trans (cn_same (.ff hf) (fun j o _ => hf.2.1 8 j o (by decide))) (Nat.le_trans (cn_same (.cl (fun d hd => hR d (by omega) (by omega))) (fun j o _ => (hR 8 (by decide) (by decide)).2.1 j o)) ?_)
    have u8 := u 8 (by decide) (by decide) (by decide) (by decide)
    have e1 : np (fL S p q c b) = np S := by
      show (sE (fL S p q c b) 21 0).length = _
      rw [(u 21 (by decide) (by decide) (by decide) (by decide)).2.2]
    have e2 : cmN (fL S p q c b) = cmN S := by
      unfold cmN
      rw [(u 2 (by decide) (by decide) (by decide) (by decide)).1]
      exact ns_cg (fun i _ => by rw [(u 24 (by decide) (by decide) (by decide) (by decide)).2.2])
    have e5 : rlN z (fL S p q c b) = rlN z S := by
      unfold rlN
      rw [u8.1]
      exact ns_cg (fun q hq => by unfold rb; rw [u8.2.1, u8.2.1])
    have e6 : dlN z (fL S p q c b) = dlN z S := by
      unfold dlN
      rw [u8.1]
      exact ns_cg (fun q hq => by unfold db; rw [u8.2.1])
    have h0 := hI.cn.1
    unfold cn
    rw [e1, e2, e5, e6, u8.1, fL_05]
    omega
theorem relQ_cq : cq T (fRelQ (fRelU T o) o) := by
  refine ⟨?_, fRel_sn, fun i => ?_, ?_, fRel_sn⟩
  · show sE (fRelU T o) 21 0 = _
    exact fRel_sE
  · show sE (fRelU T o) 24 i = _
    exact fRel_sE
  · unfold fRelQ
    rw [sT_set, if_neg (by omega)]
    exact fRel_sT (by omega) (by omega) (by omega)
theorem go_cq : cq X (fGoOn z X o) := by
  unfold fGoOn
  split
  · rw [fFi_def]
    split
    · have u : ∀ c : Nat, c ≠ 6 → c ≠ 8 → c ≠ 22 → ceq X (fFiB z X o) c := fun c x y w => fB_c ⟨x, y, w⟩
      exact ⟨(u 21 (by decide) (by decide) (by decide)).2.2 0, (u 2 (by decide) (by decide) (by decide)).1, fun i => (u 24 (by decide) (by decide) (by decide)).2.2 i, (u 0 (by decide) (by decide) (by decide)).2.1 5 0, fB_n8⟩
    · have u : ∀ c : Nat, c ≠ 0 → c ≠ 8 → ceq X (fFiA z X o) c := fun c x y => fA_c ⟨x, y⟩
      exact ⟨(u 21 (by decide) (by decide)).2.2 0, (u 2 (by decide) (by decide)).1, fun i => (u 24 (by decide) (by decide)).2.2 i, fA_0 (by decide), fA_n⟩
  · refine ⟨?_, rfl, fun i => ?_, ?_, rfl⟩
    · rw [sE_ssE, if_neg (by omega)]; rfl
    · rw [sE_ssE, if_neg (by omega)]; rfl
    · rw [sT_ssE, sT_set, if_neg (by omega)]
theorem cnRl {v : Int} (hz : zInj z) (hRr : rR z S S) (hI : iAll z k S) (hMS : mShape S) (hB : mBox S) (hI2 : iAll z k2 S2) (hR : iRn z S) (hk : k ≤ 1000) (h : pRl z S S2 v) : cn z S2 ≤ cn z S + 1 := by
  have hd := d5Rl hz hRr hI hMS hB hI2 hR hk h
  rcases h with ⟨v, rfl⟩ | ⟨hc, hok, h⟩ | ⟨hc, hok, h⟩
  · exact Nat.le_succ_of_le (cn_same (.ff ffr.mt) (fun j o _ => ffr.mt.2.1 8 j o (by decide)))
  · unfold cRl at hc
    rw [Bool.and_eq_true, Bool.and_eq_true] at hc
    obtain ⟨o, ho, ho8⟩ := idx (of_decide_eq_true hc.1)
    have eo : v.toNat = o := by omega
    rw [eo] at hc hok h
    have hmd : (sT S 8 1 o).toNat % 2 = 0 := of_decide_eq_true hc.2.1
    have hah := hc.2.2
    have gT := relTW hz hI hR ho8 hmd
    have t6 := (pairRelT hz hRr hI hR.1.1 hMS hB ho8 hah hmd).1.2.2.2.2.2.1
    have hR1 := hRr.frY hMS hB t6
    have u7 := (pairRelT hz hR1 hI hR.1.1 (hMS.fr t6) (hB.fr t6) ho8 hah hmd).1.2.2.2.2.2.2.1
    rw [← h] at u7
    exact Nat.le_succ_of_le (Nat.le_trans (cn_same (.ff u7) (fun j o _ => u7.2.1 8 j o (by decide))) ((relT_kC hz hI ho8 hmd).le hz gT.1))
  · unfold cRl at hc
    rw [Bool.and_eq_true, Bool.and_eq_true] at hc
    obtain ⟨o, ho, ho8⟩ := idx (of_decide_eq_true hc.1)
    have eo : v.toNat = o := by omega
    rw [eo] at hc hok h
    have hmd : (sT S 8 1 o).toNat % 2 = 0 := of_decide_eq_true hc.2.1
    have hah := hc.2.2
    have w6 := (pairRel hz hRr hI hR.1.1 hMS hB ho8 hah hmd hk hok).2.1.1
    have hR1 := hRr.frY hMS hB w6
    have v7 := (pairRel hz hR1 hI hR.1.1 (hMS.fr w6) (hB.fr w6) ho8 hah hmd hk hok).2.1.2.1
    unfold sRl at h
    rw [← h] at v7
    have gT := relTW hz hI hR ho8 hmd
    have kT := relT_kC hz hI ho8 hmd
    obtain ⟨⟨t1, t2, t3, t4, t5, t6, t7, t8, t9, t10, t11, t12⟩, -, -, tst⟩ := pairRelT hz hRr hI hR.1.1 hMS hB ho8 hah hmd
    have hst := tst hok
    clear h
    generalize (fRelT z S o).1 = T at *
    generalize (mRelT S o).1 = U at *
    have ho' : o < sn T 8 := by rw [t11]; exact ho8
    obtain ⟨⟨g1, g2, g3, g4, g5, g6, g7, g8, g9, g10, g11, g12, g13⟩, -, -⟩ := pairRelP hz t1 t2 t3 t4 t5 ho' hst (by rw [t12]; exact hmd) hk
    have gG := relGW hz t2 gT.2 ho' hst (by rw [t12]; exact hmd) g2 g12
    have qG : cq T (fGoOn z (fRelQ (fRelU T o) o) o) := relQ_cq.trans go_cq
    have h87 : ∀ q : Nat, q ≠ o → sT (fGoOn z (fRelQ (fRelU T o) o) o) 8 7 q = sT T 8 7 q := fun q hq => by
      rw [g12 7 q (by omega)]
      unfold fRelQ
      rw [sT_set, if_neg (by omega)]
      exact fRel_sT (by omega) (by omega) (by omega)
    have hcst := g2.co.2.2.2.2.2
    unfold fRelZ at v7
    generalize fGoOn z (fRelQ (fRelU T o) o) o = G at *
    generalize mGoOn (mRelQ (mRelU U o) o) o = M at *
    obtain ⟨⟨b1, b2, b3, b4, b5, b6, b7, b8, b9, b10, b11, b12, b13, b14⟩, -⟩ := pairBegT hz g1 (g2.mono (Nat.le_succ _)) g3 g4 (by push_cast; omega)
    obtain ⟨q1, q2, q3⟩ := b12.low hz gG.2.2.2
    have h81 : ∀ q : Nat, q < sn T 8 → sT G 8 1 q = sT T 8 1 q := fun q hq => gG.1.2.2.1.2 1 q hq (by decide)
    have hS8 : sn T 8 = sn S 8 := kT.2.2.2.2.2
    have hG8 : sn G 8 = sn T 8 := qG.2.2.2.2
    refine cn_x (e := o) ((kT.2.trans qG).trans (q1.trans (.ff v7))) (fun q hq hqo => ⟨fun w => ?_, fun w => db_of hd (by rw [v7.1 8 (by decide), q1.2.2.2.2, hG8, hS8]; exact hq) w⟩) (Or.inr (fun w => db_of hd (by rw [v7.1 8 (by decide), q1.2.2.2.2, hG8, hS8]; exact ho8) w))
    have w1 : rb z (fBeginN z G (sn G 1)) q = true := by
      unfold rb at w ⊢
      rw [v7.2.1 8 1 q (by decide), v7.2.1 8 7 q (by decide)] at w
      exact w
    have w2 := rb_low g2.or q2 q3 (by omega) w1
    have w3 : rb z T q = true := by
      unfold rb at w2 ⊢
      rw [h81 q (by omega), h87 q hqo] at w2
      exact w2
    exact (kT.1.ky hz (fun p hp => gT.1.2.2.1.2 1 p hp (by decide)) q hq).1 w3
theorem cnDl {v : Int} (hz : zInj z) (hRr : rR z S S) (hI : iAll z k S) (hMS : mShape S) (hB : mBox S) (hI2 : iAll z k2 S2) (hR : iRn z S) (h : pDl z S S2 v) : cn z S2 ≤ cn z S + 1 := by
  have g := (stDl hz hRr hI hMS hB hI2 hR h).1
  obtain ⟨-, hd⟩ := dlL hz hRr hI hMS hB hI2 hR h
  have hq : cq S S2 ∧ ((∀ q : Nat, sT S2 8 7 q = sT S 8 7 q) ∨ ∃ o : Nat, o < sn S 8 ∧ fDelOk z S o = true ∧ ∀ q : Nat, q ≠ o → sT S2 8 7 q = sT S 8 7 q) := by
    rcases h with ⟨v, rfl⟩ | ⟨hc, -, h⟩ | ⟨hc, -, h⟩
    · exact ⟨.ff ffr.mt, Or.inl (fun q => ffr.mt.2.1 8 7 q (by decide))⟩
    · unfold cDl at hc
      rw [Bool.and_eq_true] at hc
      obtain ⟨o, ho, ho8⟩ := idx (of_decide_eq_true hc.1)
      have eo : v.toNat = o := by omega
      rw [eo] at hc h
      have pG : plG S (fDlT S o).1 := (dlG hI ho8 (sn S 6) (Nat.le_refl _)).1
      have hRT := hRr.frY hMS hB (pG.mfr.trans (mfr.mt (v := 0)))
      have hf := (ffr.mt (X := (fDlT S o).1) (v := 0)).trans (srcI hRT hI ho8)
      rw [← h] at hf
      exact ⟨(cq.cl (fun c hc => pG.ceq (by omega))).trans (.ff hf), Or.inl (fun q => (hf.2.1 8 7 q (by decide)).trans ((pG.ceq (c := 8) (by decide)).2.1 7 q))⟩
    · unfold cDl at hc
      rw [Bool.and_eq_true] at hc
      obtain ⟨o, ho, ho8⟩ := idx (of_decide_eq_true hc.1)
      have eo : v.toNat = o := by omega
      rw [eo] at hc h
      obtain ⟨pG, hes, -, -⟩ := dlG hI ho8 (sn S 6) (Nat.le_refl _)
      have pG : plG S (fDlT S o).1 := pG
      have hRT := hRr.frY hMS hB ((pG.mfr.trans (dZ_mfr (z := z) (o := o) (mm := sn S 27))).trans (mfr.mt (v := 0)))
      have hf := ((ffr.mt (X := fDlZ z (fDlT S o).1 o (sn S 27)) (v := 0)).trans (srcI hRT hI ho8)).trans (mZ_ffr (o := o) (mm := sn (mt (fDlZ z (fDlT S o).1 o (sn S 27)) 0) 42))
      rw [← h] at hf
      clear h hes
      generalize (fDlT S o).1 = T at *
      have hZ : cq T (fDlZ z T o (sn S 27)) := ⟨by rw [dZ_E, if_neg (by omega)], dZ_n, fun i => by rw [dZ_E, if_neg (by omega)], dZ_T (by omega) (by omega) (by omega), dZ_n⟩
      exact ⟨((cq.cl (fun c hc => pG.ceq (by omega))).trans hZ).trans (.ff hf), Or.inr ⟨o, ho8, hc.2, fun q hq => (hf.2.1 8 7 q (by decide)).trans ((dZ_T (by omega) (by omega) (by omega)).trans ((pG.ceq (c := 8) (by decide)).2.1 7 q))⟩⟩
  obtain ⟨hq, ho⟩ := hq
  have h81 : ∀ q : Nat, q < sn S 8 → sT S2 8 1 q = sT S 8 1 q := fun q hq => g.2.2.1.2 1 q hq (by decide)
  rcases ho with ho | ⟨o, ho, hok, h7⟩
  · refine Nat.le_succ_of_le (cn_keep hq (fun q h8 => ?_))
    unfold rb db
    rw [h81 q h8, ho]
    exact ⟨fun w => w, fun w => w⟩
  · refine cn_x (e := o) hq (fun q h8 hqo => ?_) (Or.inl (fun w => ?_))
    · unfold rb db
      rw [h81 q h8, h7 q hqo]
      exact ⟨fun w => w, fun w => w⟩
    · unfold rb at w ⊢
      rw [h81 o ho] at w
      obtain ⟨w1, -, -⟩ := of_decide_eq_true w
      unfold fDelOk at hok
      rw [Bool.or_eq_true, Bool.and_eq_true] at hok
      have h4 : sT S 8 7 o = (z 4 : Nat) := by
        rcases hok with a | a
        · have := of_decide_eq_true a.1
          omega
        · exact of_decide_eq_true a
      refine decide_eq_true ⟨w1, fun a => ?_, fun a => ?_⟩
      · have := hz 4 0 (by decide) (by decide) (by omega)
        omega
      · have := hz 4 1 (by decide) (by decide) (by omega)
        omega
end ZG6
