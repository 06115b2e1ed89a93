/-! THE SIMULATION: hold, withdraw -/
set_option maxRecDepth 100000
section ZBI
variable {g : zG} {w0 : hG} {z : Nat → Nat} {a m ol od k scr n i : Nat} {sf : Nat → Int32} {S : hS} {gh : Nat → Nat → Nat} {J : zw_W} {σ : zS} {Q : Option Value ⊕ String → zS → Prop}
def pHo (z : Nat → Nat) (S S2 : hS) (v : Int) (on : Bool) : Prop := (∃ v : Int, S2 = mt S v) ∨ ((0 ≤ v ∧ v < sn S 6) ∧ S2 = (mHoldS (fHold z S v.toNat on).1 v.toNat on).1)
def nHo (z : Nat → Nat) (S : hS) (v : Int) (on : Bool) : Nat := if 0 ≤ v ∧ v < sn S 6 then (fHold z S v.toNat on).2.2 else 0
/-- both sides of a hold, one behind the other -/
theorem pairHold {q : Nat} {on : Bool} (hz : zInj z) (hR : rR z S S) (hI : iAll z k S) (hS : mShape S) (hB : mBox S) :
    rR z (fHold z S q on).1 (mHoldS (fHold z S q on).1 q on).1 ∧ iAll z k (fHold z S q on).1 ∧ mShape (mHoldS (fHold z S q on).1 q on).1 ∧ mBox (mHoldS (fHold z S q on).1 q on).1 ∧ (mHoldS (fHold z S q on).1 q on).2.1 = (fHold z S q on).2.1 ∧ (fHold z S q on).2.1 ≤ sn S 8 ∧ (mHoldS (fHold z S q on).1 q on).2.2 ≤ (fHold z S q on).2.2 ∧
    mfr S (fHold z S q on).1 ∧ ffr (fHold z S q on).1 (mHoldS (fHold z S q on).1 q on).1 ∧ (∀ c : Nat, sn S c ≤ sn (mHoldS (fHold z S q on).1 q on).1 c) ∧ sT (mHoldS (fHold z S q on).1 q on).1 11 0 0 = 0 := by
  have hI1 : iNo z k S := hI.no
  -- the Foundrymark's side, with the model's of before
  have hm0 : mfr S (fHl S q on) := mfr.refl.set (by decide)
  obtain ⟨a1, a2, a3, a4⟩ := pairHl (i := q) (on := on) hR hI1 hS hB
  have P0 := pairLose hz a1 a2 a3 a4 (sn S 8) (Nat.le_refl _)
  have hmf : mfr S (fHold z S q on).1 := hm0.trans P0.mf
  have hR1 : rR z S (mt (fHold z S q on).1 0) := hR.frY hS hB (hmf.trans mfr.mt)
  have hS1 := hS.fr (hmf.trans (mfr.mt (v := 0)))
  have hB1 := hB.fr (hmf.trans (mfr.mt (v := 0)))
  obtain ⟨b1, b2, b3, b4⟩ := pairHl (i := q) (on := on) hR1 hI1 hS1 hB1
  have P := pairLose hz b1 b2 b3 b4 (sn S 8) (Nat.le_refl _)
  have e15 : sn (fHold z S q on).1 15 = sn S 8 := (hmf.1 15 (by decide)).trans hR.O.1
  have nF : ∀ c : Nat, sn (fHold z S q on).1 c = sn S c := P.n8
  have t0 : sT (mHl (mt (fHold z S q on).1 0) q on) 11 0 0 = 0 := by
    rw [mHl_T (by omega), sT_set, if_pos ⟨rfl, rfl, rfl⟩]
  cases on with
  | true =>
    have eM : mHoldS (fHold z S q true).1 q true = mLoseN (mHl (mt (fHold z S q true).1 0) q true) (sn S 8) := by
      unfold mHoldS
      rw [if_pos rfl, e15]
    rw [eM]
    refine ⟨P.r, P.i.all P.hd, P.s, P.b, P.c, P.le, P.cost, hmf, ?_, fun c => ?_, P.t0.trans t0⟩
    · exact ((ffr.mt (v := 0)).set (by decide)).trans P.ff
    · rw [P.m8]
      show _ ≤ sn (fHold z S q true).1 c
      rw [nF]
      exact Nat.le_refl _
  | false =>
    have eM : mHoldS (fHold z S q false).1 q false = (mHl (mt (fHold z S q false).1 0) q false, 0, 0) := by
      unfold mHoldS
      rw [if_neg (by decide)]
    obtain ⟨w1, w2⟩ := fLoseN_quiet (iHd_off (i := q) hI) (sn S 8) (Nat.le_refl _)
    have eF : (fHold z S q false).1 = fHl S q false := w1
    have eC : (fHold z S q false).2.1 = 0 := w2
    rw [eM, eC]
    refine ⟨?_, ?_, b3, b4, rfl, Nat.zero_le _, Nat.zero_le _, hmf, (ffr.mt (v := 0)).set (by decide), fun c => ?_, t0⟩
    · rw [eF]
      rw [eF] at b1
      exact b1
    · rw [eF]
      exact b2.all (iHd_off hI)
    · show _ ≤ sn (fHold z S q false).1 c
      rw [nF]
      exact Nat.le_refl _
theorem tS6 (C : hCon g w0 z) (hz : zInj z) (L : lSt g w0 z a m ol od k S gh J σ) (hs : w0.1 scr = some (.inl (8, n, .inl sf))) (hlt : scr < zg_n g) (hi : i + 5 < n) (hn : n ≤ 1000)
    (hQ : ∀ (S2 : hS) (gh2 : Nat → Nat → Nat) (J2 : zw_W) (σ2 : zS), pHo z S S2 (scw sf i 1) (decide (scw sf i 2 ≠ 0)) → lSt g w0 z a m ol od (k + 1) S2 gh2 J2 σ2 → kc σ σ2 (1 + 2 * nHo z S (scw sf i 1) (decide (scw sf i 2 ≠ 0))) (6 + 8 * nHo z S (scw sf i 1) (decide (scw sf i 2 ≠ 0))) → tW g 1600 2441 (tLV scr a m ol od i) [] σ2 Q) : tW g 1600 720 (tLV scr a m ol od i) [] σ Q := by
  have L0 := L
  obtain ⟨H, ⟨f, hf⟩, ⟨fd, hfd⟩, ha, hm, hC, hR, hI, hS, hB⟩ := L
  have hne := ol_ne hf hfd
  have h1 : rg (scw sf i 1) := rg_scw
  have hnM : sn S 14 = sn S 6 := hR.L.1
  have h30 := hI.fix.2.2.2.2.2.2.2.2.2.2.2.1
  have hsB : scB sf i 2 = bi (decide (scw sf i 2 ≠ 0)) := rfl
  generalize hon : decide (scw sf i 2 ≠ 0) = on at *
  by_cases hc : 0 ≤ scw sf i 1 ∧ scw sf i 1 < sn S 6
  · obtain ⟨q, hq, hq6⟩ := idx hc
    have eq : (scw sf i 1).toNat = q := by omega
    have en : nHo z S (scw sf i 1) on = (fHold z S q on).2.2 := by
      unfold nHo
      rw [if_pos hc, eq]
    rw [en] at hQ
    obtain ⟨σ0, r1, H0, k0⟩ := F_hold (i := q) (on := on) H C hI.fix hI.W hI.Tk hI.Ord ha hq6
    rw [← hq] at r1
    obtain ⟨c1, c2, c3, c4, c5, c6, c7, c8, c9, c10, c11⟩ := pairHold (q := q) (on := on) hz hR hI hS hB
    obtain ⟨σ1, p1, H1, e1⟩ := Lh_hold (d := 107) H ha r1 (by omega) H0 hf ⟨by omega, by omega⟩
    have hmS := hS.fr c8
    have hR1 := hR.frY hS hB c8
    have n14 : sn (fHold z S q on).1 14 = sn S 6 := (c8.1 14 (by decide)).trans hnM
    have hm1 : hat gh (fHold z S q on).1 11 0 m := ⟨by rw [c8.1 11 (by decide)]; exact hm.1, hm.2⟩
    obtain ⟨σ2, p2, H2, e2⟩ := M_hold (on := on) (v := scw sf i 1) H1 hmS.1 (hR1.mW hI hmS) (hR1.mOrd hmS) (hR1.mOrd2 hI hmS) hm1 h1
    have hcM : 0 ≤ scw sf i 1 ∧ scw sf i 1 < sn (fHold z S q on).1 14 := by rw [n14]; exact hc
    rw [if_pos hcM, eq] at p2 H2 e2
    rw [c5] at p2
    refine tC6 H hs hlt hi hn (by rw [hsB]; exact p1) (by decide) H1 hm1 (by rw [hsB]; exact p2) (by decide) (by decide) H2 ⟨Nat.lt_of_lt_of_le hm.1 (c10 11), hm.2⟩ ⟨by decide, by decide⟩ ⟨by omega, by omega⟩ c11 (fun _ => ⟨zw_up_same _ _ _, va_up_self _ _ _⟩) ?_
    refine hQ _ _ _ σ2 (Or.inr ⟨hc, by rw [eq]⟩) (L0.chg (gext_rfl (S := S)) c10 c1 (c2.mono (Nat.le_succ _)) c3 c4 c9 H2 ⟨_, zw_up_same _ _ _⟩ ⟨fd, (zw_up_ne _ _ hne).trans hfd⟩) ?_
    exact ((k0.trans (kc.of e1)).trans e2).mono (by omega) (by omega)
  · obtain ⟨σ1, r1, H1, k1⟩ := F_holdX (w := scB sf i 2) H hI.fix ha h1 hc
    have p1 := Lh_holdX1 (d := 107) (b := ol) H ha r1 (by omega)
    obtain ⟨σ2, p2, H2, e2⟩ := M_hold (on := on) (v := scw sf i 1) H1 hS.1 (hR.mW hI hS) (hR.mOrd hS) (hR.mOrd2 hI hS) hm h1
    have hcM : ¬ (0 ≤ scw sf i 1 ∧ scw sf i 1 < sn S 14) := by rw [hnM]; exact hc
    rw [if_neg hcM] at p2 H2 e2
    refine tC6 (f := f) H hs hlt hi hn p1 (by decide) H1 hm (by rw [hsB]; exact p2) (by decide) (by decide) H2 hm ⟨by decide, by decide⟩ ⟨by decide, by decide⟩ (by rw [sT_set, if_pos ⟨rfl, rfl, rfl⟩]) (fun e => absurd e (by decide)) ?_
    refine hQ _ _ _ σ2 (Or.inl ⟨1, rfl⟩) (L0.quiet ffr.refl mfr.refl (gext_rfl (S := S)) (fun _ => Nat.le_refl _) H2 ⟨f, hf⟩ ⟨fd, hfd⟩) ?_
    exact (k1.trans e2).mono (by omega) (by omega)
def pWd (z : Nat → Nat) (S S2 : hS) (v : Int) : Prop := (∃ v : Int, S2 = mt S v) ∨ ((0 ≤ v ∧ v < sn S 8) ∧ sT S 8 7 v.toNat = (z 1 : Nat) ∧ S2 = mFree (mt (fFr z S v.toNat) 0) v.toNat)
theorem tS17 (C : hCon g w0 z) (hz : zInj z) (L : lSt g w0 z a m ol od k S gh J σ) (hs : w0.1 scr = some (.inl (8, n, .inl sf))) (hlt : scr < zg_n g) (hi : i + 5 < n) (hn : n ≤ 1000)
    (hQ : ∀ (S2 : hS) (gh2 : Nat → Nat → Nat) (J2 : zw_W) (σ2 : zS), pWd z S S2 (scw sf i 1) → lSt g w0 z a m ol od (k + 1) S2 gh2 J2 σ2 → kc σ σ2 2 8 → tW g 1600 2441 (tLV scr a m ol od i) [] σ2 Q) : tW g 1600 1413 (tLV scr a m ol od i) [] σ Q := by
  have L0 := L
  obtain ⟨H, ⟨f, hf⟩, ⟨fd, hfd⟩, ha, hm, hC, hR, hI, hS, hB⟩ := L
  have hne := ol_ne hf hfd
  have h1 : rg (scw sf i 1) := rg_scw
  have hnM : sn S 15 = sn S 8 := hR.O.1
  by_cases hc : 0 ≤ scw sf i 1 ∧ scw sf i 1 < sn S 8
  · obtain ⟨o, ho, ho8⟩ := idx hc
    have eo : (scw sf i 1).toNat = o := by omega
    obtain ⟨r, σ0, r1, hr⟩ := F_withdraw (o := o) H C hI.fix hI.Tk hI.Ord ha ho8
    rw [← ho] at r1
    have hcM : 0 ≤ scw sf i 1 ∧ scw sf i 1 < sn S 15 := by rw [hnM]; exact hc
    have hpr : sT S 15 5 o = 112 ↔ sT S 8 7 o = (z 1 : Nat) := hR.stIff hz ho8 (s := 1) (by decide)
    rcases hr with ⟨hk0, rfl, H0, k0⟩ | ⟨hk0, rfl, H0, k0⟩
    · have p1 := Lh_withdrawX2 (d := 7) (b := ol) H ha r1 (by omega)
      obtain ⟨σ2, p2, H2, e2⟩ := M_withdraw H0 hS.1 (hR.mOrd hS) (hR.mOrd2 hI hS) hm h1
      have hn1 : ¬ sT S 8 7 o = (z 1 : Nat) := fun e => by
        unfold fStg at hk0
        rw [decide_eq_true e] at hk0
        cases hk0
      have ec : mC2 S (scw sf i 1) (decide (sT S 15 5 (scw sf i 1).toNat = 112)) = 2 := by
        unfold mC2
        rw [if_neg (fun w => w hcM), eo, decide_eq_false (fun w => hn1 (hpr.mp w)), if_neg (by decide)]
      rw [ec, if_neg (by decide)] at p2 H2
      refine tC17 (f := f) H hs hlt hi hn p1 (by decide) H0 hm p2 (by decide) (by decide) H2 hm ⟨by decide, by decide⟩ ⟨by decide, by decide⟩ (by rw [sT_set, if_pos ⟨rfl, rfl, rfl⟩]) (fun e => absurd e (by decide)) ?_
      refine hQ _ _ _ σ2 (Or.inl ⟨_, rfl⟩) (L0.quiet ffr.refl mfr.refl (gext_rfl (S := S)) (fun _ => Nat.le_refl _) H2 ⟨f, hf⟩ ⟨fd, hfd⟩) ?_
      exact (k0.trans e2).mono (by omega) (by omega)
    · have hst : sT S 8 7 o = (z 1 : Nat) := of_decide_eq_true hk0
      have fm : mfr S (fFr z S o) := fFr_mfr
      have hmS := hS.fr fm
      have hR1 := hR.frY hS hB fm
      have hB1 := hB.fr fm
      have hR2 := hR.frY hS hB (fm.trans (mfr.mt (v := 0)))
      have hS2 := hS.fr (fm.trans (mfr.mt (v := 0)))
      have hB2 := hB.fr (fm.trans (mfr.mt (v := 0)))
      have hg3 := (hR.O.2 o ho8).2.2.1
      have h400 := (hI.em o ho8).2.2
      have h5 := (hI.or o ho8).2.2.2.2.2.1
      have hsm : mSumP (fFr z S o) o (sE (fFr z S o) 39 o).length = fWdSum S o (sE S 26 (fOL S o)).length := by
        have e39 : sE (fFr z S o) 39 o = sE S 39 o := fm.2.2.1 39 o (by decide)
        have e19 : ∀ q : Nat, sT (fFr z S o) 19 0 q = sT S 19 0 q := fun q => fm.2.1 19 0 q (by decide) (by omega)
        unfold mSumP fWdSum
        rw [e39, List.take_length, List.take_length]
        simp only [e19]
        have e := congrArg (fun L => (L.map Prod.snd).sum) hg3.1
        have e1 : (mTl S o).map Prod.snd = (sE S 39 o).map (fun j => sT S 19 0 j.toNat) := by
          unfold mTl mZs
          rw [List.map_map]
          have : (Prod.snd ∘ fun q : Int × Int => (q.1, sT S 19 0 q.2.toNat)) = (fun j : Int => sT S 19 0 j.toNat) ∘ Prod.snd := rfl
          rw [this, ← List.map_map, List.map_snd_zip (by rw [hg3.2]; exact Nat.le_refl _)]
        have e2 : (fTl S o).map Prod.snd = (sE S 26 (fOL S o)).map (fun t => sT S 7 1 t.toNat) := by
          unfold fTl
          rw [List.map_map]
          rfl
        have e : ((mTl S o).map Prod.snd).sum = ((fTl S o).map Prod.snd).sum := e
        rw [e1, e2] at e
        exact e
      have hws : 0 ≤ fWdSum S o (sE S 26 (fOL S o)).length ∧ fWdSum S o (sE S 26 (fOL S o)).length ≤ 500 * 400 := by
        unfold fWdSum
        rw [List.take_length]
        have key : ∀ L : List Int, (∀ t ∈ L, 0 ≤ t ∧ t < sn S 7) → 0 ≤ (L.map (fun t => sT S 7 1 t.toNat)).sum ∧ (L.map (fun t => sT S 7 1 t.toNat)).sum ≤ 500 * L.length := by
          intro L
          induction L with
          | nil => intro _; exact ⟨Int.le_refl _, Int.le_refl _⟩
          | cons t L ih =>
            intro h
            have h1 := ih (fun x hx => h x (List.mem_cons_of_mem _ hx))
            have h2 := h t List.mem_cons_self
            have h3 := (hI.tk.2.2 t.toNat (by omega)).2
            rw [List.map_cons, List.sum_cons, List.length_cons]
            omega
        have := key _ (hI.tk.1 (fOL S o) (by unfold fOL; omega))
        omega
      obtain ⟨σ1, p1, H1, e1⟩ := Lh_withdraw (d := 7) H ha r1 (by omega) H0 hf ⟨by omega, by omega⟩
      have hm1 : hat gh (fFr z S o) 11 0 m := ⟨by rw [fFr_sn]; exact hm.1, hm.2⟩
      obtain ⟨σ2, p2, H2, e2⟩ := M_withdraw (v := scw sf i 1) H1 hmS.1 (hR1.mOrd hmS) (hR1.mOrd2 hI hmS) hm1 h1
      have e15 : sT (fFr z S o) 15 5 o = 112 := by
        rw [fFr_sT (by omega) (by omega)]
        exact hpr.mpr hst
      have ec : mC2 (fFr z S o) (scw sf i 1) (decide (sT (fFr z S o) 15 5 (scw sf i 1).toNat = 112)) = 0 := by
        unfold mC2
        rw [if_neg (fun w => w (by rw [fFr_sn]; exact hcM)), eo, decide_eq_true e15, if_pos rfl]
      rw [ec, if_pos rfl, eo] at p2 H2
      rw [hsm] at p2
      obtain ⟨q1, q2, q3, q4⟩ := pairFr (Y := mt (fFr z S o) 0) hz hR2 hI.no hS2 hB2 ho8 hst
      have hd : iHd z (fFr z S o) := by
        intro q hq hb
        rw [fFr_sn] at hq
        by_cases e : q = o
        · subst e
          have := of_decide_eq_true hb
          rw [fFr_87] at this
          exact absurd (hz 0 1 (by decide) (by decide) (by omega)) (by decide)
        · exact fOk1_fr hz hI.no ho8 hst hq e (fun hp => hI.hd q hq hp) hb
      refine tC17 H hs hlt hi hn p1 (by decide) H1 hm1 p2 (by decide) (by decide) H2 ⟨by rw [mF_sn]; exact hm1.1, hm.2⟩ ⟨by decide, by decide⟩ ⟨by omega, by omega⟩ (by rw [mF_sT (by omega) (by omega), sT_set, if_pos ⟨rfl, rfl, rfl⟩]) (fun _ => ⟨zw_up_same _ _ _, va_up_self _ _ _⟩) ?_
      refine hQ (mFree (mt (fFr z S o) 0) o) _ _ σ2 (Or.inr ⟨hc, by rw [eo]; exact hst, by rw [eo]⟩) (L0.chg (gext_rfl (S := S)) (fun c => by rw [mF_sn]; show _ ≤ sn (fFr z S o) c; rw [fFr_sn]; exact Nat.le_refl _) q1 ((q2.all hd).mono (Nat.le_succ _)) q3 q4 (ffr.mt.trans mFr_ffr) H2 ⟨_, zw_up_same _ _ _⟩ ⟨fd, (zw_up_ne _ _ hne).trans hfd⟩) ?_
      exact ((k0.trans (kc.of e1)).trans e2).mono (by omega) (by omega)
  · obtain ⟨σ1, r1, H1, k1⟩ := F_withdrawX H hI.fix ha h1 hc
    have p1 := Lh_withdrawX1 (d := 7) (b := ol) H ha r1 (by omega)
    obtain ⟨σ2, p2, H2, e2⟩ := M_withdraw H1 hS.1 (hR.mOrd hS) (hR.mOrd2 hI hS) hm h1
    have ec : mC2 S (scw sf i 1) (decide (sT S 15 5 (scw sf i 1).toNat = 112)) = 1 := by
      unfold mC2
      rw [if_pos (show ¬ (0 ≤ scw sf i 1 ∧ scw sf i 1 < sn S 15) by rw [hnM]; exact hc)]
    rw [ec, if_neg (by decide)] at p2 H2
    refine tC17 (f := f) H hs hlt hi hn p1 (by decide) H1 hm p2 (by decide) (by decide) H2 hm ⟨by decide, by decide⟩ ⟨by decide, by decide⟩ (by rw [sT_set, if_pos ⟨rfl, rfl, rfl⟩]) (fun e => absurd e (by decide)) ?_
    refine hQ _ _ _ σ2 (Or.inl ⟨1, rfl⟩) (L0.quiet ffr.refl mfr.refl (gext_rfl (S := S)) (fun _ => Nat.le_refl _) H2 ⟨f, hf⟩ ⟨fd, hfd⟩) ?_
    exact (k1.trans e2).mono (by omega) (by omega)
end ZBI
