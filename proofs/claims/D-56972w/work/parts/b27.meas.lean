/-! THE SIMULATION: measure -/
set_option maxRecDepth 100000
theorem sset_same {S : hS} {c k i : Nat} {v : Int} (h : sT S c k i = v) : sset S c k i v = S := by
  obtain ⟨a, b, d⟩ := S
  show (a, (fun c' k' i' => if c' = c ∧ k' = k ∧ i' = i then v else b c' k' i'), d) = (a, b, d)
  have h : b c k i = v := h
  congr 2
  funext c' k' i'
  by_cases e : c' = c ∧ k' = k ∧ i' = i
  · rw [if_pos e, e.1, e.2.1, e.2.2, h]
  · rw [if_neg e]
section ZBJ1
variable {z : Nat → Nat} {k : Nat} {X Y T : hS} {p c j q : Nat} {v : Int}
theorem outEq (h4 : sT T 13 4 p = sT X c 2 j) (h5 : sT T 13 5 p = sT X c 3 j) (h6 : sT T 13 6 p = sT X c 5 j) (h7 : sT T 13 7 p = sT X c 6 j) : mOut T p v = fOut X c j v ∧ mAbove T p v = fAbove X c j v ∧ mBelow T p v = fBelow X c j v := by
  have ea : mAbove T p v = fAbove X c j v := by unfold mAbove fAbove; rw [h4, h6]
  have eb : mBelow T p v = fBelow X c j v := by unfold mBelow fBelow; rw [h4, h7]
  refine ⟨?_, ea, eb⟩
  unfold mOut fOut
  rw [ea, eb, h4, h5]
theorem outS_chF : chF X (fOutS X c j v) c j := by
  unfold fOutS
  refine ⟨fun d hd => ((ceq.refl.set hd).set hd).set hd, rfl, fun _ => rfl, fun k i h => ?_⟩
  rw [sT_set, if_neg (by omega), sT_set, if_neg (by omega), sT_set, if_neg (by omega)]
theorem outS_chM : chM Y (mOutS Y p v) p := by
  unfold mOutS
  refine ⟨fun d hd => ((ceq.refl.set hd.2).set hd.2).set hd.2, ⟨rfl, rfl⟩, fun k j h => ?_, fun k j h => ?_⟩
  · rw [sT_set, if_neg (by omega), sT_set, if_neg (by omega), sT_set, if_neg (by omega)]
  · rw [sT_set, if_neg (by omega), sT_set, if_neg (by omega), sT_set, if_neg (by omega)]
/-- the charts behind a measuring -/
theorem pairOut (hR : rR z X Y) (hI : iAll z k X) (hS : mShape Y) (hB : mBox Y) (hp : p < np X) :
    rR z (fOutS X (pcl X p) (pix X p) v) (mOutS Y p v) ∧ iAll z (k + 1) (fOutS X (pcl X p) (pix X p) v) ∧ mShape (mOutS Y p v) ∧ mBox (mOutS Y p v) := by
  have h := hR.P.2 p hp
  have w := hI.pt.2.2.2.2.1 (pcl X p) (pix X p) (by unfold pcl; omega) (hI.pt.1 p hp).2.1
  obtain ⟨-, ea, eb⟩ := outEq (v := v) h.2.2.1 h.2.2.2.1 h.2.2.2.2.1 h.2.2.2.2.2.1
  generalize hc : pcl X p = c at *
  generalize hj : pix X p = j at *
  have f2 : sT (fOutS X c j v) c 2 j = sT X c 2 j := by
    unfold fOutS
    rw [sT_set, if_neg (by omega), sT_set, if_neg (by omega), sT_set, if_neg (by omega)]
  have f3 : sT (fOutS X c j v) c 3 j = sT X c 3 j := by
    unfold fOutS
    rw [sT_set, if_neg (by omega), sT_set, if_neg (by omega), sT_set, if_neg (by omega)]
  have f4 : sT (fOutS X c j v) c 4 j = sT X c 4 j + 1 := by
    unfold fOutS
    rw [sT_set, if_neg (by omega), sT_set, if_neg (by omega), sT_set, if_pos ⟨rfl, rfl, rfl⟩]
  have f5 : sT (fOutS X c j v) c 5 j = fAbove X c j v := by
    unfold fOutS
    rw [sT_set, if_neg (by omega), sT_set, if_pos ⟨rfl, rfl, rfl⟩]
  have f6 : sT (fOutS X c j v) c 6 j = fBelow X c j v := by
    unfold fOutS
    rw [sT_set, if_pos ⟨rfl, rfl, rfl⟩]
  have ra : 0 ≤ fAbove X c j v ∧ fAbove X c j v ≤ k + 1 := by
    unfold fAbove
    split <;> omega
  have rb : 0 ≤ fBelow X c j v ∧ fBelow X c j v ≤ k + 1 := by
    unfold fBelow
    split <;> omega
  refine pairCh hR (hI.mono (Nat.le_succ k)) hS hB hp hc.symm hj.symm outS_chF outS_chM ?_ ?_ ?_ ?_ ?_ ?_
  · rw [f2]; unfold mOutS
    rw [sT_set, if_neg (by omega), sT_set, if_neg (by omega), sT_set, if_neg (by omega)]
    exact h.2.2.1
  · rw [f3]; unfold mOutS
    rw [sT_set, if_neg (by omega), sT_set, if_neg (by omega), sT_set, if_neg (by omega)]
    exact h.2.2.2.1
  · rw [f5]; unfold mOutS
    rw [sT_set, if_neg (by omega), sT_set, if_pos ⟨rfl, rfl, rfl⟩]
    exact ea
  · rw [f6]; unfold mOutS
    rw [sT_set, if_pos ⟨rfl, rfl, rfl⟩]
    exact eb
  · rw [f4]; unfold mOutS
    rw [sT_set, if_neg (by omega), sT_set, if_neg (by omega), sT_set, if_pos ⟨rfl, rfl, rfl⟩]
    rw [h.2.2.2.2.2.2.1]
  · rw [f2, f3, f4, f5, f6]
    refine ⟨w.2.1, w.2.2.1, ?_, ?_, ?_⟩ <;> omega
/-- Foundrymark's side and the model's, one behind the other -/
theorem pairMeas (hz : zInj z) (hR : rR z X X) (hI : iAll z k X) (hS : mShape X) (hB : mBox X) (hp : p < np X) (hq : q < sn X 6) (hqp : sT X 6 1 q = fPc X p) :
    ∃ T S2, T = (fLoseN z (fMeasS X q v) (sn X 8)).1 ∧ S2 = (mMeasS (mt T 0) q p v).1 ∧ rR z T S2 ∧ iAll z (k + 1) T ∧ mShape S2 ∧ mBox S2 ∧ mMeasB (mt T 0) q p v = ((fMeasOut X q v || fh X q) && !fh X q) ∧ (mMeasS (mt T 0) q p v).2.2 ≤ (fLoseN z (fMeasS X q v) (sn X 8)).2.2 ∧
      mfr X T ∧ ffr T S2 ∧ (∀ c : Nat, sn X c ≤ sn S2 c) ∧ sT S2 11 0 0 = 0 := by
  refine ⟨_, _, rfl, rfl, ?_⟩
  have eL : fLp X q = fPc X p := by
    unfold fLp
    rw [hqp]; rfl
  have eMO : fMeasOut X q v = fOut X (pcl X p) (pix X p) v := by
    unfold fMeasOut pcl pix
    rw [eL]
  have eMS : fMeasS X q v = fHl (fOutS X (pcl X p) (pix X p) v) q (fOut X (pcl X p) (pix X p) v || fh X q) := by
    unfold fMeasS fHl
    rw [eMO]
    unfold pcl pix
    rw [eL]
  have hcl : pcl X p = 2 ∨ pcl X p = 3 := by unfold pcl; omega
  have h67 := (hI.lo q hq).2.2.2.2.1
  have h145 : sT X 14 5 q = sT X 6 7 q := (hR.L.2 q hq).2.2.2.2.1
  rw [eMS, eMO]
  generalize hA : fOutS X (pcl X p) (pix X p) v = A
  have mA : mfr X A := by rw [← hA]; exact outS_chF.fr hcl
  have nA : ∀ c : Nat, sn A c = sn X c := fun c => by rw [← hA]; rfl
  have h := hR.P.2 p hp
  -- what holds for whatever the model starts from
  have key : ∀ T, mfr X T → rR z A (mOutS (mt T 0) p v) ∧ iAll z (k + 1) A ∧ mShape (mOutS (mt T 0) p v) ∧ mBox (mOutS (mt T 0) p v) ∧ mMeasB (mt T 0) q p v = ((fOut X (pcl X p) (pix X p) v || fh X q) && !fh X q) ∧ sn T 15 = sn X 8 := by
    intro T hT
    have hT0 := hT.trans (mfr.mt (v := 0))
    have hR1 := hR.frY hS hB hT0
    have hm := hR1.P.2 p hp
    obtain ⟨c1, c2, c3, c4⟩ := pairOut (v := v) hR1 hI (hS.fr hT0) (hB.fr hT0) hp
    rw [hA] at c1 c2
    refine ⟨c1, c2, c3, c4, ?_, (hT.1 15 (by decide)).trans hR.O.1⟩
    unfold mMeasB
    rw [(outEq (v := v) hm.2.2.1 hm.2.2.2.1 hm.2.2.2.2.1 hm.2.2.2.2.2.1).1]
    have e5 : sT (mt T 0) 14 5 q = sT X 6 7 q := (hR1.L.2 q hq).2.2.2.2.1
    rw [e5]
    unfold fh
    rcases h67 with e | e
    · rw [e]
      cases fOut X (pcl X p) (pix X p) v <;> rfl
    · rw [e]
      cases fOut X (pcl X p) (pix X p) v <;> rfl
  cases hb : ((fOut X (pcl X p) (pix X p) v || fh X q) && !fh X q) with
  | true =>
    rw [Bool.and_eq_true] at hb
    rw [hb.1]
    have hmf0 : mfr X (fHl A q true) := mA.set (by decide)
    generalize hT : (fLoseN z (fHl A q true) (sn X 8)) = F
    have hmf : mfr X F.1 := by
      -- the loop's side alone
      obtain ⟨d1, d2, d3, d4⟩ := key X mfr.refl |> fun w => pairHl (i := q) (on := true) w.1 w.2.1.no w.2.2.1 w.2.2.2.1
      have P := pairLose hz d1 d2 d3 d4 (sn X 8) (by show _ ≤ sn A 8; rw [nA]; exact Nat.le_refl _)
      have e := P.mf
      rw [hT] at e
      exact hmf0.trans e
    obtain ⟨w1, w2, w3, w4, w5, w6⟩ := key F.1 hmf
    obtain ⟨d1, d2, d3, d4⟩ := pairHl (i := q) (on := true) w1 w2.no w3 w4
    have P := pairLose hz d1 d2 d3 d4 (sn X 8) (by show _ ≤ sn A 8; rw [nA]; exact Nat.le_refl _)
    have hbt : ((fOut X (pcl X p) (pix X p) v || fh X q) && !fh X q) = true := by rw [hb.1, hb.2]; rfl
    rw [hbt] at w5
    have eM : mMeasS (mt F.1 0) q p v = mLoseN (mHl (mOutS (mt F.1 0) p v) q true) (sn X 8) := by
      unfold mMeasS
      rw [w5, if_pos rfl]
      show mLoseN _ (sn F.1 15) = _
      rw [w6]
    have e8 : sn (fHl A q true) 8 = sn X 8 := nA 8
    have Ph : iHd z F.1 := by
      have hh : loseP z (k + 1) (fHl A q true) (mHl (mOutS (mt F.1 0) p v) q true) (sn (fHl A q true) 8) := by rw [e8]; exact P
      have := hh.hd
      rw [e8, hT] at this
      exact this
    rw [eM]
    have Pr := P.r
    have Pi := P.i
    have Pc := P.cost
    have Pn := P.n8
    rw [hT] at Pr Pi Pc Pn
    refine ⟨Pr, Pi.all Ph, P.s, P.b, w5, Pc, hmf, ?_, fun c => ?_, P.t0.trans ?_⟩
    · exact ((ffr.mt (v := 0)).trans (outS_chM.fr (p := p))).trans (((ffr.refl).set (by decide)).trans P.ff)
    · rw [P.m8]
      show _ ≤ sn F.1 c
      rw [Pn]
      show _ ≤ sn A c
      rw [nA]
      exact Nat.le_refl _
    · rw [mHl_T (by omega)]
      unfold mOutS
      rw [sT_set, if_neg (by omega), sT_set, if_neg (by omega), sT_set, if_neg (by omega), sT_set, if_pos ⟨rfl, rfl, rfl⟩]
  | false =>
    have eon : (fOut X (pcl X p) (pix X p) v || fh X q) = fh X q := by
      cases e1 : fh X q with
      | true => rw [Bool.or_true]
      | false =>
        rw [e1] at hb
        simpa using hb
    have eh : fHl A q (fh X q) = A := sset_same (by
      have : sT A 6 7 q = sT X 6 7 q := by rw [← hA]; exact (outS_chF.1 6 (by omega)).2.1 7 q
      rw [this]
      unfold fh
      rcases h67 with e | e <;> rw [e] <;> rfl)
    rw [eon, eh]
    obtain ⟨v1, v2, v3, v4, v5, v6⟩ := key X mfr.refl
    obtain ⟨l1, l2⟩ := fLoseN_quiet v2.hd (sn X 8) (by rw [nA]; exact Nat.le_refl _)
    rw [l1]
    obtain ⟨w1, w2, w3, w4, w5, w6⟩ := key A mA
    rw [hb] at w5
    have eM : mMeasS (mt A 0) q p v = (mOutS (mt A 0) p v, 0, 0) := by
      unfold mMeasS
      rw [w5, if_neg (by decide)]
    rw [eM]
    refine ⟨w1, w2, w3, w4, ?_, Nat.zero_le _, mA, (ffr.mt (v := 0)).trans (outS_chM.fr (p := p)), fun c => ?_, ?_⟩
    · rw [w5]
    · show _ ≤ sn A c
      rw [nA]
      exact Nat.le_refl _
    · show sT (mOutS (mt A 0) p v) 11 0 0 = 0
      unfold mOutS
      rw [sT_set, if_neg (by omega), sT_set, if_neg (by omega), sT_set, if_neg (by omega), sT_set, if_pos ⟨rfl, rfl, rfl⟩]
end ZBJ1
section ZBJ2
variable {g : zG} {w0 : hG} {z : Nat → Nat} {a m ol od k scr n i : Nat} {sf : Nat → Int32} {S : hS} {gh : Nat → Nat → Nat} {J : zw_W} {σ : zS} {Q : Option Value ⊕ String → zS → Prop}
def pMe (z : Nat → Nat) (S S2 : hS) (v w : Int) : Prop := (∃ v : Int, S2 = mt S v) ∨ ((0 ≤ v ∧ v < sn S 6) ∧ (0 ≤ w ∧ w ≤ 2000) ∧ ∃ p : Nat, S2 = (mMeasS (mt (fLoseN z (fMeasS S v.toNat w) (sn S 8)).1 0) v.toNat p w).1)
def nMe (z : Nat → Nat) (S : hS) (v w : Int) : Nat := if (0 ≤ v ∧ v < sn S 6) ∧ (0 ≤ w ∧ w ≤ 2000) then (fLoseN z (fMeasS S v.toNat w) (sn S 8)).2.2 else 0
theorem tS9 (C : hCon g w0 z) (hz : zInj z) (L : lSt g w0 z a m ol od k S gh J σ) (hk : k ≤ 1000) (hs : w0.1 scr = some (.inl (8, n, .inl sf))) (hlt : scr < zg_n g) (hi : i + 5 < n) (hn : n ≤ 1000)
    (hQ : ∀ (S2 : hS) (gh2 : Nat → Nat → Nat) (J2 : zw_W) (σ2 : zS), pMe z S S2 (scw sf i 1) (scw sf i 2) → lSt g w0 z a m ol od (k + 1) S2 gh2 J2 σ2 → kc σ σ2 (1 + 2 * nMe z S (scw sf i 1) (scw sf i 2)) (6 + 8 * nMe z S (scw sf i 1) (scw sf i 2)) → tW g 1600 2441 (tLV scr a m ol od i) [] σ2 Q) : tW g 1600 947 (tLV scr a m ol od i) [] σ Q := by
  have L0 := L
  obtain ⟨H, ⟨f, hf⟩, ⟨fd, hfd⟩, ha, hm, hC, hR, hI, hS, hB⟩ := L
  have hne := ol_ne hf hfd
  have h1 : rg (scw sf i 1) := rg_scw
  have h2 : rg (scw sf i 2) := rg_scw
  have hnM : sn S 14 = sn S 6 := hR.L.1
  have chF2 : ∀ c i : Nat, c = 2 ∨ c = 3 → i < sn S c → fCh S c i := fun c i hc hi => by
    have w := hI.pt.2.2.2.2.1 c i hc hi
    exact ⟨w.2.1, w.2.2.1, by omega, by omega⟩
  have hCh : fChs S := ⟨fun i hi => chF2 2 i (Or.inl rfl) hi, fun i hi => chF2 3 i (Or.inr rfl) hi⟩
  have mL : ∀ T, rR z S T → ∀ x : Nat, x < sn T 14 → 0 ≤ sT T 14 1 x ∧ sT T 14 1 x < sn T 13 := fun T hT x hx => by
    obtain ⟨⟨p, g1, g2, -⟩, -⟩ := hT.L.2 x (by rw [← hT.L.1]; exact hx)
    have := hT.P.1
    omega
  have mC : ∀ T, rR z S T → ∀ p : Nat, p < sn T 13 → (0 ≤ sT T 13 4 p ∧ sT T 13 4 p ≤ 1000) ∧ (0 ≤ sT T 13 5 p ∧ sT T 13 5 p ≤ 500) ∧ (0 ≤ sT T 13 6 p ∧ sT T 13 6 p ≤ 1000) ∧ (0 ≤ sT T 13 7 p ∧ sT T 13 7 p ≤ 1000) := fun T hT p hp => by
    have hp : p < np S := by rw [← hT.P.1]; exact hp
    have h := hT.P.2 p hp
    have w := hI.pt.2.2.2.2.1 (pcl S p) (pix S p) (by unfold pcl; omega) (hI.pt.1 p hp).2.1
    rw [h.2.2.1, h.2.2.2.1, h.2.2.2.2.1, h.2.2.2.2.2.1]
    omega
  by_cases hc : 0 ≤ scw sf i 1 ∧ scw sf i 1 < sn S 6
  · obtain ⟨q, hq, hq6⟩ := idx hc
    have eq : (scw sf i 1).toNat = q := by omega
    have hcM : 0 ≤ scw sf i 1 ∧ scw sf i 1 < sn S 14 := by rw [hnM]; exact hc
    obtain ⟨⟨p, hp1, hp2, hp3⟩, -⟩ := hR.L.2 q hq6
    have h61 : 0 ≤ sT S 6 1 q := by rw [hp3]; exact Int.natCast_nonneg _
    obtain ⟨r, σ0, r1, hr⟩ := F_measure (i := q) (v := scw sf i 2) H C hI.fix hI.W hI.Tk hI.Ord hCh h61 ha hq6 h2
    rw [← hq] at r1
    rcases hr with ⟨hw, rfl, H0, k0⟩ | ⟨hw, rfl, H0, k0⟩
    · have p1 := Lh_measureX2 (d := 107) (b := ol) H ha r1 (by omega)
      obtain ⟨r2, σ2, p2, hr2⟩ := M_measure (v := scw sf i 1) (w := scw sf i 2) H0 hS.1 (hR.mW hI hS) (hR.mOrd hS) (hR.mOrd2 hI hS) (mL S hR) (mC S hR) hm h1 h2
      have ec : mMeasC S (scw sf i 1) (scw sf i 2) = 2 := by
        unfold mMeasC
        rw [if_neg (fun w => w hcM), if_pos hw]
      rw [ec] at hr2
      rcases hr2 with ⟨-, rfl, H2, e2⟩ | ⟨hx, -⟩
      · refine tC9 (v := false) (f := f) H hs hlt hi hn p1 (by decide) H0 hm p2 (by decide) (by decide) H2 hm ⟨by decide, by decide⟩ (by rw [sT_set, if_pos ⟨rfl, rfl, rfl⟩]) (fun e => absurd e (by decide)) ?_
        refine hQ _ _ _ σ2 (Or.inl ⟨_, rfl⟩) (L0.quiet ffr.refl mfr.refl (gext_rfl (S := S)) (fun _ => Nat.le_refl _) H2 ⟨f, hf⟩ ⟨fd, hfd⟩) ?_
        exact (k0.trans e2).mono (by omega) (by omega)
      · exact absurd hx (by decide)
    · have en : nMe z S (scw sf i 1) (scw sf i 2) = (fLoseN z (fMeasS S q (scw sf i 2)) (sn S 8)).2.2 := by
        unfold nMe
        rw [if_pos ⟨hc, hw⟩, eq]
      rw [en] at hQ
      obtain ⟨T, S2, eT, eS, c1, c2, c3, c4, c5, c6, c7, c8, c9, c10⟩ := pairMeas (v := scw sf i 2) hz hR hI hS hB hp1 hq6 hp3
      rw [← eT] at H0
      obtain ⟨σ1, p1, H1, e1⟩ := Lh_measure (d := 107) H ha r1 (by omega) H0 hf
      have hmS := hS.fr c7
      have hR1 := hR.frY hS hB c7
      have hm1 : hat gh T 11 0 m := ⟨by rw [c7.1 11 (by decide)]; exact hm.1, hm.2⟩
      obtain ⟨r2, σ2, p2, hr2⟩ := M_measure (v := scw sf i 1) (w := scw sf i 2) H1 hmS.1 (hR1.mW hI hmS) (hR1.mOrd hmS) (hR1.mOrd2 hI hmS) (mL T hR1) (mC T hR1) hm1 h1 h2
      have ec : mMeasC T (scw sf i 1) (scw sf i 2) = 0 := by
        unfold mMeasC
        rw [if_neg (fun w => w (by rw [c7.1 14 (by decide)]; exact hcM)), if_neg (fun w => w hw)]
      have ep : (sT T 14 1 q).toNat = p := by
        rw [c7.2.1 14 1 q (by decide) (by omega), hp2, Int.toNat_natCast]
      rw [ec, eq, ep] at hr2
      rcases hr2 with ⟨hx, -⟩ | ⟨-, rfl, H2, e2⟩
      · exact absurd rfl hx
      · rw [← eS] at H2
        rw [c5] at p2
        refine tC9 H hs hlt hi hn p1 (by decide) H1 hm1 p2 (by decide) (by decide) H2 ⟨Nat.lt_of_lt_of_le hm.1 (c9 11), hm.2⟩ ⟨by decide, by decide⟩ c10 (fun _ => ⟨zw_up_same _ _ _, va_up_self _ _ _⟩) ?_
        refine hQ S2 _ _ σ2 (Or.inr ⟨hc, hw, p, by rw [eq, ← eT]; exact eS⟩) (L0.chg (gext_rfl (S := S)) c9 c1 c2 c3 c4 c8 H2 ⟨_, zw_up_same _ _ _⟩ ⟨fd, (zw_up_ne _ _ hne).trans hfd⟩) ?_
        exact ((k0.trans (kc.of e1)).trans e2).mono (by omega) (by omega)
  · obtain ⟨σ1, r1, H1, k1⟩ := F_measureX (w := scw sf i 2) H hI.fix ha h1 hc
    have p1 := Lh_measureX1 (d := 107) (b := ol) H ha r1 (by omega)
    obtain ⟨r2, σ2, p2, hr2⟩ := M_measure (v := scw sf i 1) (w := scw sf i 2) H1 hS.1 (hR.mW hI hS) (hR.mOrd hS) (hR.mOrd2 hI hS) (mL S hR) (mC S hR) hm h1 h2
    have ec : mMeasC S (scw sf i 1) (scw sf i 2) = 1 := by
      unfold mMeasC
      rw [if_pos (show ¬ (0 ≤ scw sf i 1 ∧ scw sf i 1 < sn S 14) by rw [hnM]; exact hc)]
    rw [ec] at hr2
    rcases hr2 with ⟨-, rfl, H2, e2⟩ | ⟨hx, -⟩
    · refine tC9 (v := false) (f := f) H hs hlt hi hn p1 (by decide) H1 hm p2 (by decide) (by decide) H2 hm ⟨by decide, by decide⟩ (by rw [sT_set, if_pos ⟨rfl, rfl, rfl⟩]) (fun e => absurd e (by decide)) ?_
      refine hQ _ _ _ σ2 (Or.inl ⟨_, rfl⟩) (L0.quiet ffr.refl mfr.refl (gext_rfl (S := S)) (fun _ => Nat.le_refl _) H2 ⟨f, hf⟩ ⟨fd, hfd⟩) ?_
      exact (k1.trans e2).mono (by omega) (by omega)
    · exact absurd hx (by decide)
end ZBJ2
