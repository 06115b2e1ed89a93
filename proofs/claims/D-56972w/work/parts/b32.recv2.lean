/-! THE SIMULATION: receive, the case -/
set_option maxRecDepth 100000
theorem sset_comm {S : hS} {c k i c' k' i' : Nat} {v w : Int} (h : c ≠ c') : sset (sset S c k i v) c' k' i' w = sset (sset S c' k' i' w) c k i v := by
  unfold sset
  simp only [Prod.mk.injEq, true_and, and_true]
  funext a b d
  by_cases h1 : a = c' ∧ b = k' ∧ d = i'
  · rw [if_pos h1, if_neg (fun w => h (w.1.symm.trans h1.1)), if_pos h1]
  · rw [if_neg h1, if_neg h1]
section ZBR3
variable {g : zG} {w0 : hG} {z : Nat → Nat} {a m ol od k scr n i : Nat} {sf : Nat → Int32} {S : hS} {gh : Nat → Nat → Nat} {J : zw_W} {σ : zS} {Q : Option Value ⊕ String → zS → Prop}
theorem fRecv_eq {p q c s v : Int} : fReceive z S p q c s v = fRefuse z (fL S p q c (fIsR (fRl z S s.toNat) v)) s.toNat s.toNat (fRl z S s.toNat) v := by
  unfold fReceive fL fRefuse
  have e28 : sE (sset (fRecv1 S p q c) 6 7 (sn S 6) (bi (fIsR (fRl z S s.toNat) v))) 28 s.toNat = sE (fRecv1 S p q c) 28 s.toNat := rfl
  rw [e28]
  by_cases h : gNext (fRl z S s.toNat) (bls z (sE (fRecv1 S p q c) 28 s.toNat) ++ [fIsR (fRl z S s.toNat) v]) = fRl z S s.toNat
  · rw [if_pos h, if_pos h]; rfl
  · rw [if_neg h, if_neg h]
    have e : ∀ (T : hS) (x b : Int) (y : Nat) (xs ys : List Int), sset (ssE (sset (ssE T 28 s.toNat xs) 9 0 y x) 28 s.toNat ys) 6 7 (sn S 6) b = ssE (sset (ssE (sset T 6 7 (sn S 6) b) 28 s.toNat xs) 9 0 y x) 28 s.toNat ys := fun T x b y xs ys => by
      have e1 : sset (ssE (sset (ssE T 28 s.toNat xs) 9 0 y x) 28 s.toNat ys) 6 7 (sn S 6) b = ssE (sset (sset (ssE T 28 s.toNat xs) 9 0 y x) 6 7 (sn S 6) b) 28 s.toNat ys := rfl
      rw [e1, sset_comm (show (9 : Nat) ≠ 6 by decide)]
      rfl
    exact e _ _ _ _ _ _
theorem mRecv_eq {p q c : Int} {s : Nat} {is : Bool} : mReceive z S p q c s is = mSupS z (mL S p q c is) s is := by
  have e35 : sE (mL S p q c is) 35 s = sE S 35 s := (mL_ceq (by decide)).2.2 s
  have e47 : sE (mL S p q c is) 47 0 = sE S 47 0 := (mL_ceq (by decide)).2.2 0
  have eR : mRl (mL S p q c is) s = mRl S s := by unfold mRl; rw [e47]
  unfold mReceive mSupS
  rw [eR, e35, e47]
  rfl
theorem fL_mfr {p q c : Int} {is : Bool} : mfr S (fL S p q c is) := by
  unfold fL fRecv1 fAdd kFLot
  exact ((((((((((((mfr.refl.set (by decide)).set (by decide)).snw (by decide)).snw (by decide)).set (by decide)).set (by decide)).set (by decide)).set (by decide)).set (by decide)).set (by decide)).ssE (by decide)).set (by decide))
theorem fRefuse_mfr {x y r : Nat} {v : Int} : mfr S (fRefuse z S x y r v) := by
  unfold fRefuse
  split
  · exact mfr.refl.ssE (by decide)
  · exact ((mfr.refl.ssE (by decide)).set (by decide)).ssE (by decide)
theorem mL_ffr {p q c : Int} {is : Bool} : ffr S (mL S p q c is) := by
  unfold mL mLotS kMLot
  exact (((((((((((ffr.mt.set (by decide)).snw (by decide)).snw (by decide)).set (by decide)).set (by decide)).set (by decide)).set (by decide)).set (by decide)).ssE (by decide)).set (by decide)))
theorem mSupS_ffr {s : Nat} {is : Bool} : ffr S (mSupS z S s is) :=
  ⟨fun _ _ => mSupS_n, fun _ _ _ _ => mSupS_T, fun c i hc => (mSupS_ceq ⟨fun e => by rw [e] at hc; exact absurd hc (by decide), fun e => by rw [e] at hc; exact absurd hc (by decide)⟩).2.2 i⟩
theorem fL_le {p q c : Int} {is : Bool} : ∀ d : Nat, sn S d ≤ sn (fL S p q c is) d := fun d => by
  by_cases h : d ≠ 0 ∧ d ≠ 6 ∧ d ≠ 22 ∧ d ≠ 26
  · rw [(fL_ceq h).1]; exact Nat.le_refl _
  · by_cases h6 : d = 6
    · subst h6; exact Nat.le_succ _
    · by_cases h26 : d = 26
      · subst h26; exact Nat.le_succ _
      · by_cases h0 : d = 0
        · subst h0; exact Nat.le_refl _
        · obtain rfl : d = 22 := by omega
          exact Nat.le_refl _
theorem mL_le {p q c : Int} {is : Bool} : ∀ d : Nat, sn S d ≤ sn (mL S p q c is) d := fun d => by
  by_cases h : d ≠ 11 ∧ d ≠ 14 ∧ d ≠ 32 ∧ d ≠ 41
  · rw [(mL_ceq h).1]; exact Nat.le_refl _
  · by_cases h6 : d = 14
    · subst h6; exact Nat.le_succ _
    · by_cases h26 : d = 41
      · subst h26; exact Nat.le_succ _
      · by_cases h0 : d = 11
        · subst h0; exact Nat.le_refl _
        · obtain rfl : d = 32 := by omega
          exact Nat.le_refl _
def pRc (z : Nat → Nat) (S S2 : hS) (p q c s v : Int) : Prop := (∃ v : Int, S2 = mt S v) ∨ (fRecvCode S p q c s v = 0 ∧ ∃ is : Bool, S2 = mReceive z (fReceive z S p q c s v) p q c s.toNat is)
theorem recvCode {X Y : hS} {p q c s v : Int} (hR : rR z X Y) (hI : iAll z k X) : mRecvCode Y p q c s v = (fRecvCode X p q c s v : Nat) ∧ fRecvCode X p q c s v ≤ 4 ∧ (fRecvCode X p q c s v = 0 → fIsP X p ∧ ((1 ≤ q ∧ q ≤ 500) ∧ (0 ≤ c ∧ c ≤ 999) ∧ (0 ≤ s ∧ s ≤ 3) ∧ (0 ≤ v ∧ v ≤ 20)) ∧ sT X 0 5 0 < 60) := by
  have h13 : sn Y 13 = np X := hR.P.1
  have h60 := hI.cn.2.1
  have e5 : sT Y 11 5 0 = sT X 0 5 0 := hR.G.1
  unfold mRecvCode fRecvCode
  by_cases c1 : fIsP X p
  · have c1' : 0 ≤ p ∧ p < sn Y 13 := by rw [h13]; exact c1
    rw [if_neg (show ¬ ¬ (0 ≤ p ∧ p < sn Y 13) from fun w => w c1'), if_neg (show ¬ ¬ fIsP X p from fun w => w c1)]
    obtain ⟨i, rfl, hi⟩ := idx c1
    have hi : i < np X := hi
    have hd := hR.mdIff hi
    rw [Int.toNat_natCast]
    by_cases c2 : fPc X (i : Nat) % 2 = 1
    · rw [if_neg (fun w => by have := hd.mp w; omega), if_neg (show ¬ ¬ (fPc X (i : Nat) % 2 = 1) from fun w => w c2)]
      by_cases c3 : (1 ≤ q ∧ q ≤ 500) ∧ (0 ≤ c ∧ c ≤ 999) ∧ (0 ≤ s ∧ s ≤ 3) ∧ (0 ≤ v ∧ v ≤ 20)
      · have c3' : ¬ ¬ ((1 ≤ q ∧ q ≤ 500) ∧ (0 ≤ c ∧ c ≤ 999) ∧ (0 ≤ s ∧ s ≤ 3) ∧ (0 ≤ v ∧ v ≤ 20)) := fun w => w c3
        rw [if_neg c3', if_neg c3']
        by_cases c4 : 60 ≤ sT X 0 5 0
        · rw [if_pos c4, if_pos (by omega)]
          exact ⟨rfl, by decide, fun w => absurd w (by decide)⟩
        · rw [if_neg c4, if_neg (by omega)]
          exact ⟨rfl, by decide, fun _ => ⟨c1, c3, by omega⟩⟩
      · rw [if_pos c3, if_pos c3]
        exact ⟨rfl, by decide, fun w => absurd w (by decide)⟩
    · rw [if_pos (hd.mpr (by omega)), if_pos c2]
      exact ⟨rfl, by decide, fun w => absurd w (by decide)⟩
  · have c1' : ¬ (0 ≤ p ∧ p < sn Y 13) := by rw [h13]; exact c1
    rw [if_pos c1, if_pos c1']
    exact ⟨rfl, by decide, fun w => absurd w (by decide)⟩
theorem tS4 (C : hCon g w0 z) (hz : zInj z) (L : lSt g w0 z a m ol od k S gh J σ) (hs : w0.1 scr = some (.inl (8, n, .inl sf))) (hlt : scr < zg_n g) (hi : i + 5 < n) (hn : n ≤ 1000)
    (hQ : ∀ (S2 : hS) (gh2 : Nat → Nat → Nat) (J2 : zw_W) (σ2 : zS), pRc z S S2 (scw sf i 1) (scw sf i 2) (scw sf i 3) (scw sf i 4) (scw sf i 5) → lSt g w0 z a m ol od (k + 1) S2 gh2 J2 σ2 → kc σ σ2 8 1000 → tW g 1600 2441 (tLV scr a m ol od i) [] σ2 Q) : tW g 1600 560 (tLV scr a m ol od i) [] σ Q := by
  have L0 := L
  obtain ⟨H, ⟨f, hf⟩, ⟨fd, hfd⟩, ha, hm, hC, hR, hI, hS, hB⟩ := L
  have hne := ol_ne hf hfd
  have h1 : rg (scw sf i 1) := rg_scw
  have h2 : rg (scw sf i 2) := rg_scw
  have h3 : rg (scw sf i 3) := rg_scw
  have h4 : rg (scw sf i 4) := rg_scw
  have h5 : rg (scw sf i 5) := rg_scw
  have h30 := hI.fix.2.2.2.2.2.2.2.2.2.2.2.1
  have c60 := hI.cn.1
  have c61 := hI.cn.2.1
  have hU : fSup z S := ⟨hI.su.1, hI.su.2.1, fun x hx => by
    obtain ⟨b1, b2, b3⟩ := hI.su.2.2 x hx
    have := hI.cn.2.2.2.2 x hx
    exact ⟨b1, b2, b3, by omega⟩⟩
  have eG : sT S 11 5 0 = sT S 0 5 0 := hR.G.1
  have h14 : sn S 14 = sn S 6 := hR.L.1
  obtain ⟨r, σ0, r1, hr⟩ := F_receive (z := z) H C hI.fix hU ha ⟨by omega, by omega⟩ (fun h => iCn.lt100 hI.cn h30 h) h1 h2 h3 h4 h5
  obtain ⟨oc, oc4, oc0⟩ := recvCode (p := scw sf i 1) (q := scw sf i 2) (c := scw sf i 3) (s := scw sf i 4) (v := scw sf i 5) hR hI
  rcases hr with ⟨hk0, rfl, H0, k0⟩ | ⟨hk0, rfl, gh1, hg1, H0, k0⟩
  · obtain ⟨r2, σ2, p2, hr2⟩ := M_receive (z := z) H0 C hS.1 (hR.mPart hI hS) (hR.mSup hI) hm ⟨by omega, by omega⟩ (fun h => by rw [h14]; exact iCn.lt100 hI.cn h30 (by omega)) h1 h2 h3 h4 h5
    have fin : ∀ kk : Nat, 1 ≤ kk → kk ≤ 4 → fRecvCode S (scw sf i 1) (scw sf i 2) (scw sf i 3) (scw sf i 4) (scw sf i 5) = kk → zEnd g 10 73 [.ref a, iv (scw sf i 1), iv (scw sf i 2), iv (scw sf i 3), iv (scw sf i 4), iv (scw sf i 5), .ref ol] σ (.inl (some (iv ((kk : Nat) : Int)))) σ0 → tW g 1600 560 (tLV scr a m ol od i) [] σ Q := by
      intro kk hk1 hk4 ec p1
      rw [oc, ec] at hr2
      rcases hr2 with ⟨-, rfl, H2, e2⟩ | ⟨hx, -⟩
      · refine tC4 (f := f) H hs hlt hi hn p1 (by decide) H0 hm p2 (by decide) (by decide) H2 hm ⟨by omega, by omega⟩ ⟨by decide, by decide⟩ (by rw [sT_set, if_pos ⟨rfl, rfl, rfl⟩]) (fun e => by omega) ?_
        refine hQ _ _ _ σ2 (Or.inl ⟨_, rfl⟩) (L0.quiet ffr.refl mfr.refl (gext_rfl (S := S)) (fun _ => Nat.le_refl _) H2 ⟨f, hf⟩ ⟨fd, hfd⟩) ?_
        exact (k0.trans e2).mono (by omega) (by omega)
      · omega
    have hcase : fRecvCode S (scw sf i 1) (scw sf i 2) (scw sf i 3) (scw sf i 4) (scw sf i 5) = 1 ∨ fRecvCode S (scw sf i 1) (scw sf i 2) (scw sf i 3) (scw sf i 4) (scw sf i 5) = 2 ∨ fRecvCode S (scw sf i 1) (scw sf i 2) (scw sf i 3) (scw sf i 4) (scw sf i 5) = 3 ∨ fRecvCode S (scw sf i 1) (scw sf i 2) (scw sf i 3) (scw sf i 4) (scw sf i 5) = 4 := by omega
    rcases hcase with w | w | w | w
    · rw [w] at r1
      exact fin 1 (by omega) (by omega) w (Lh_receiveX1 (d := 10) (b := ol) H ha r1 (by omega))
    · rw [w] at r1
      exact fin 2 (by omega) (by omega) w (Lh_receiveX2 (d := 10) (b := ol) H ha r1 (by omega))
    · rw [w] at r1
      exact fin 3 (by omega) (by omega) w (Lh_receiveX3 (d := 10) (b := ol) H ha r1 (by omega))
    · rw [w] at r1
      exact fin 4 (by omega) (by omega) w (Lh_receiveX4 (d := 10) (b := ol) H ha r1 (by omega))
  · obtain ⟨c1, ⟨c2, c3, c4, c5⟩, c6⟩ := oc0 hk0
    obtain ⟨s, es, hs4⟩ : ∃ s : Nat, scw sf i 4 = s ∧ s < 4 := ⟨(scw sf i 4).toNat, (Int.toNat_of_nonneg c4.1).symm, by omega⟩
    have es2 : (scw sf i 4).toNat = s := by omega
    have h100 := iCn.lt100 hI.cn h30 c6
    obtain ⟨σ1, p1, H1, e1⟩ := Lh_receive (d := 10) H ha r1 (by omega) H0 hf ⟨by omega, by omega⟩
    rw [fRecv_eq, es2] at H1
    obtain ⟨⟨rr, r6, r9, hrr⟩, -, -⟩ := hI.su.2.2 s hs4
    have eRl : fRl z S s = rr := by unfold fRl; rw [hrr, rNo_zI hz r6 r9]
    generalize hT0 : fL S (scw sf i 1) (scw sf i 2) (scw sf i 3) (fIsR (fRl z S s) (scw sf i 5)) = T0 at H1
    generalize hT : fRefuse z T0 s s (fRl z S s) (scw sf i 5) = T at H1
    have fm0 : mfr S T0 := by rw [← hT0]; exact fL_mfr
    have fm : mfr S T := by rw [← hT]; exact fm0.trans fRefuse_mfr
    have hmS := hS.fr fm
    have hR1 := hR.frY hS hB fm
    have hB1 := hB.fr fm
    have hle : ∀ d : Nat, sn S d ≤ sn T d := fun d => by
      rw [← hT, fRefuse_sn, ← hT0]
      exact fL_le d
    rw [fRecv_eq, es2, hT0, hT] at H0
    have hg1 : gext S gh gh1 := hg1
    have hm1 := hg1.hat hle hm
    have eG1 : sT T 11 5 0 = sT S 0 5 0 := hR1.G.1
    have h141 : sn T 14 = sn S 6 := hR1.L.1
    obtain ⟨r2, σ2, p2, hr2⟩ := M_receive (z := z) H1 C hmS.1 (hR1.mPart hI hmS) (hR1.mSup hI) hm1 ⟨by omega, by omega⟩ (fun h => by rw [h141]; exact h100) h1 h2 h3 h4 h5
    have ec : mRecvCode T (scw sf i 1) (scw sf i 2) (scw sf i 3) (scw sf i 4) (scw sf i 5) = 0 := by
      rw [(recvCode (p := scw sf i 1) (q := scw sf i 2) (c := scw sf i 3) (s := scw sf i 4) (v := scw sf i 5) hR1 hI).1, hk0]; rfl
    have emRl : mRl T s = rlL rr := by
      have := (hR1.S.2.2.2 s hs4).2
      rw [eRl] at this
      unfold mRl
      rw [List.getD_eq_getElem?_getD, this]; rfl
    have eis : decide (mLim (mRl T s) < scw sf i 5) = fIsR rr (scw sf i 5) := by
      unfold fIsR
      rw [emRl, lim_eq r6 r9]
    rw [ec, es2, eis, mRecv_eq] at hr2
    rcases hr2 with ⟨hx, -⟩ | ⟨-, rfl, gh2, hg2, H2, e2⟩
    · exact absurd rfl hx
    · rw [h141] at p2
      rw [eRl] at hT0 hT
      -- the pair: the lot, then the supplier
      obtain ⟨q1, q2, q3, q4⟩ := pairL (is := fIsR rr (scw sf i 5)) (p := scw sf i 1) hR1 hI hmS hB1 c1 c2 c3 c6
      rw [hT0] at q1 q2
      have u9 : fRl z T0 s = rr := by
        rw [← hT0]
        unfold fRl
        rw [(fL_ceq (by decide)).2.1 0 s, hrr, rNo_zI hz r6 r9]
      have hl28 : ((sE T0 28 s).length : Int) + 1 ≤ sT T0 0 5 0 := by
        rw [← hT0, fL_05, (fL_ceq (by decide)).2.2 s]
        have := hI.cn.2.2.2.2 s hs4
        omega
      obtain ⟨w1, w2, w3, w4⟩ := pairSup (v := scw sf i 5) hz q1 q2 q3 q4 hs4 hl28
      rw [u9, hT] at w1 w2
      rw [u9] at w3 w4
      have hle2 : ∀ d : Nat, sn T d ≤ sn (mSupS z (mL T (scw sf i 1) (scw sf i 2) (scw sf i 3) (fIsR rr (scw sf i 5))) s (fIsR rr (scw sf i 5))) d := fun d => by
        rw [mSupS_n]; exact mL_le d
      refine tC4 H hs hlt hi hn p1 (by decide) H1 hm1 p2 (by decide) (by decide) H2 (hg2.hat hle2 hm1) ⟨by decide, by decide⟩ ⟨by omega, by omega⟩ (by rw [mSupS_T]; exact mL_t0) (fun _ => ⟨zw_up_same _ _ _, va_up_self _ _ _⟩) ?_
      refine hQ (mSupS z (mL T (scw sf i 1) (scw sf i 2) (scw sf i 3) (fIsR rr (scw sf i 5))) s (fIsR rr (scw sf i 5))) _ _ σ2 (Or.inr ⟨hk0, fIsR rr (scw sf i 5), by rw [fRecv_eq, es2, mRecv_eq, eRl, hT0, hT]⟩) (L0.chg (hg1.trans hg2 hle) (fun c => Nat.le_trans (hle c) (hle2 c)) w1 w2 w3 w4 (mL_ffr.trans mSupS_ffr) H2 ⟨_, zw_up_same _ _ _⟩ ⟨fd, (zw_up_ne _ _ hne).trans hfd⟩) ?_
      exact ((k0.trans (kc.of e1)).trans e2).mono (by omega) (by omega)
end ZBR3
