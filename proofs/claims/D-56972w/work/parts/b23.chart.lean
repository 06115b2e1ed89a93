/-! THE SIMULATION: a part's chart is changed; setChart -/
set_option maxRecDepth 100000
/-- only a part's chart differs -/
def chF (X X' : hS) (c i : Nat) : Prop := (∀ d : Nat, d ≠ c → ceq X X' d) ∧ sn X' c = sn X c ∧ (∀ j : Nat, sE X' c j = sE X c j) ∧ ∀ k j : Nat, ¬ (j = i ∧ 2 ≤ k ∧ k ≤ 6) → sT X' c k j = sT X c k j
def chM (Y Y' : hS) (p : Nat) : Prop := (∀ d : Nat, d ≠ 11 ∧ d ≠ 13 → ceq Y Y' d) ∧ (sn Y' 11 = sn Y 11 ∧ sn Y' 13 = sn Y 13) ∧ (∀ k j : Nat, ¬ (j = p ∧ 4 ≤ k ∧ k ≤ 8) → sT Y' 13 k j = sT Y 13 k j) ∧ ∀ k j : Nat, k ≠ 0 → sT Y' 11 k j = sT Y 11 k j
section ZBH1
variable {z : Nat → Nat} {k : Nat} {X X' Y Y' : hS} {p c i : Nat}
theorem chF.fr (h : chF X X' c i) (hc : c = 2 ∨ c = 3) : mfr X X' := by
  obtain ⟨h1, h2, h3, h4⟩ := h
  have e : ∀ d : Nat, mcl d → d ≠ c := fun d hd => by
    rintro rfl
    rcases hc with rfl | rfl
    · exact absurd hd (by decide)
    · exact absurd hd (by decide)
  exact ⟨fun d hd => (h1 d (e d hd)).1, fun d k j hd _ => (h1 d (e d hd)).2.1 k j, fun d j hd => (h1 d (e d hd)).2.2 j, by rw [(h1 46 (by omega)).1]; exact Nat.le_refl _, fun j _ => (h1 46 (by omega)).2.2 j⟩
theorem chM.fr (h : chM Y Y' p) : ffr Y Y' := by
  obtain ⟨h1, -, -, -⟩ := h
  have e : ∀ d : Nat, fcl d → d ≠ 11 ∧ d ≠ 13 := fun d hd => ⟨by rintro rfl; exact absurd hd (by decide), by rintro rfl; exact absurd hd (by decide)⟩
  exact ⟨fun d hd => (h1 d (e d hd)).1, fun d k j hd => (h1 d (e d hd)).2.1 k j, fun d j hd => (h1 d (e d hd)).2.2 j⟩
theorem pairCh (hR : rR z X Y) (hI : iAll z k X) (hS : mShape Y) (hB : mBox Y) (hp : p < np X) (hc : c = pcl X p) (hi : i = pix X p) (hF : chF X X' c i) (hM : chM Y Y' p)
    (e1 : sT Y' 13 4 p = sT X' c 2 i) (e2 : sT Y' 13 5 p = sT X' c 3 i) (e3 : sT Y' 13 6 p = sT X' c 5 i) (e4 : sT Y' 13 7 p = sT X' c 6 i) (e5 : sT Y' 13 8 p = sT X' c 4 i)
    (hr : (0 ≤ sT X' c 2 i ∧ sT X' c 2 i ≤ 1000) ∧ (0 ≤ sT X' c 3 i ∧ sT X' c 3 i ≤ 500) ∧ (0 ≤ sT X' c 4 i ∧ sT X' c 4 i ≤ k) ∧ (0 ≤ sT X' c 5 i ∧ sT X' c 5 i ≤ k) ∧ (0 ≤ sT X' c 6 i ∧ sT X' c 6 i ≤ k)) :
    rR z X' Y' ∧ iAll z k X' ∧ mShape Y' ∧ mBox Y' := by
  obtain ⟨u0, un, uE, uT⟩ := hF
  obtain ⟨g, ⟨gn11, gn⟩, gT, g11⟩ := hM
  have hc23 : c = 2 ∨ c = 3 := by rw [hc]; unfold pcl; omega
  have u : ∀ d : Nat, d ≠ 2 ∧ d ≠ 3 → ceq X X' d := fun d hd => u0 d (by omega)
  have nC : ∀ d : Nat, sn X' d = sn X d := fun d => by
    by_cases h : d = c
    · rw [h]; exact un
    · exact (u0 d h).1
  have eC : ∀ d j : Nat, sE X' d j = sE X d j := fun d j => by
    by_cases h : d = c
    · rw [h]; exact uE j
    · exact (u0 d h).2.2 j
  have tC : ∀ d k j : Nat, ¬ (d = c ∧ j = i ∧ 2 ≤ k ∧ k ≤ 6) → sT X' d k j = sT X d k j := fun d k j h => by
    by_cases h2 : d = c
    · rw [h2]; exact uT k j (fun w => h ⟨h2, w⟩)
    · exact (u0 d h2).2.1 k j
  have enp : np X' = np X := by
    show (sE X' 21 0).length = (sE X 21 0).length
    rw [eC]
  have epc : ∀ q : Int, fPc X' q = fPc X q := fPc_congr (eC 21 0)
  have epcl : ∀ q : Nat, pcl X' q = pcl X q := fun q => by unfold pcl; rw [epc]
  have epix : ∀ q : Nat, pix X' q = pix X q := fun q => by unfold pix; rw [epc]
  refine ⟨⟨?_, ?_, ?_, ?_, ?_, ?_, ?_⟩, ?_, ?_, ?_⟩
  · have hg := hR.G
    unfold rG at hg ⊢
    rw [g11 5 0 (by decide), g11 8 0 (by decide), (u 0 (by decide)).2.1, (u 0 (by decide)).2.1]
    exact hg
  · exact rM_congr (fun k i => (u 1 (by decide)).2.1 k i) (u 1 (by decide)).1 (fun k i => (g 12 (by decide)).2.1 k i) (g 12 (by decide)).1 hR.M
  · refine ⟨by rw [gn, enp]; exact hR.P.1, fun q hq => ?_⟩
    rw [enp] at hq
    have h := hR.P.2 q hq
    rw [epc, epcl, epix, gT 0 q (by omega), gT 1 q (by omega), tC (pcl X q) 1 (pix X q) (by omega)]
    refine ⟨h.1, h.2.1, ?_⟩
    have hl : fPc X (q : Nat) % 2 = 0 → rCs X' Y' q ∧ rOs X' Y' q := fun hm => by
      obtain ⟨w1, w2⟩ := h.2.2.2.2.2.2.2 hm
      unfold rCs at w1 ⊢
      unfold rOs at w2 ⊢
      rw [epix, (g 36 (by decide)).2.2, (g 37 (by decide)).2.2, eC, eC]
      simp only [(g 46 (by decide)).2.2, (u 4 (by decide)).2.1, (u 5 (by decide)).2.1]
      exact ⟨w1, w2⟩
    by_cases e : q = p
    · subst e
      rw [← hc, ← hi]
      exact ⟨e1, e2, e3, e4, e5, hl⟩
    · have hne : ¬ (pcl X q = c ∧ pix X q = i) := by
        rintro ⟨w1, w2⟩
        have a1 := (hI.pt.1 q hq).2.2
        have a2 := (hI.pt.1 p hp).2.2
        rw [w1, w2] at a1
        rw [← hc, ← hi] at a2
        omega
      have tq : ∀ k : Nat, sT X' (pcl X q) k (pix X q) = sT X (pcl X q) k (pix X q) := fun k => tC _ _ _ (fun w => hne ⟨w.1, w.2.1⟩)
      rw [tq, tq, tq, tq, tq, gT 4 q (by omega), gT 5 q (by omega), gT 6 q (by omega), gT 7 q (by omega), gT 8 q (by omega)]
      exact ⟨h.2.2.1, h.2.2.2.1, h.2.2.2.2.1, h.2.2.2.2.2.1, h.2.2.2.2.2.2.1, hl⟩
  · exact hR.L.gr (pgr.same (eC 21 0)) (u 6 (by decide)) (u 7 (by decide)) (u 26 (by decide)) (g 14 (by decide)) (g 41 (by decide))
  · exact hR.O.gr (pgr.same (eC 21 0)) (u 7 (by decide)) (u 8 (by decide)) (u 26 (by decide)) (u 27 (by decide)) (g 15 (by decide)) (g 19 (by decide)) (g 38 (by decide)) (g 39 (by decide)) (g 40 (by decide))
  · exact rQ_congr (fun m _ => (u 45 (by decide)).2.2 m) (u 1 (by decide)).1 (u 8 (by decide)).1 (fun o _ => ⟨(g 15 (by decide)).2.1 5 o, (g 15 (by decide)).2.1 10 o⟩) hR.Q
  · exact rS_congr (fun x _ => ⟨(u 28 (by decide)).2.2 x, (u 9 (by decide)).2.1 0 x⟩) (fun d i hd => (g d (by omega)).2.2 i) (g 35 (by decide)).1 hR.S
  · obtain ⟨i1, i2, i3, i4, i5, i6, i7, i8, i9, i10, i11, i12, i13, i14⟩ := hI
    refine ⟨?_, ?_, i3.cg (u 0 (by decide)) (u 1 (by decide)) (u 45 (by decide)).1, i4.cg (u 6 (by decide)) (u 7 (by decide)) (u 21 (by decide)) (u 26 (by decide)), i5.cg (u 6 (by decide)).1 (u 7 (by decide)) (u 26 (by decide)) (u 27 (by decide)), i6.cg (u 6 (by decide)) (u 8 (by decide)) (u 21 (by decide)) (u 26 (by decide)).1 (u 27 (by decide)).1, i7.cg (u 6 (by decide)) (u 8 (by decide)), ?_, i9.cg (u 6 (by decide)) (u 7 (by decide)) (u 8 (by decide)) (u 26 (by decide)) (u 27 (by decide)), i10.cg (u 0 (by decide)) (u 6 (by decide)) (u 7 (by decide)) (u 8 (by decide)) (u 27 (by decide)), i11.cg (u 6 (by decide)) (u 7 (by decide)) (u 8 (by decide)) (u 26 (by decide)), i12.cg (u 8 (by decide)) (u 26 (by decide)) (u 27 (by decide)), i13.cg (u 0 (by decide)) (u 6 (by decide)).1 (u 8 (by decide)) (u 28 (by decide)), i14.cg (u 9 (by decide)) (u 28 (by decide)) (u 48 (by decide))⟩
    · unfold fFix at i1 ⊢
      have f0 := u 0 (by decide)
      rw [f0.1, f0.2.1, f0.2.1, f0.2.1, f0.2.1, f0.2.1, eC, eC, eC, eC, nC, nC, nC]
      exact i1
    · obtain ⟨a1, a2, a3, a4, a5, a6, a7, a8, a9⟩ := i2
      refine ⟨fun q hq => ?_, by rw [nC, nC]; exact a2, by rw [nC, nC]; exact a3, fun j hj => ?_, fun d j hd hj => ?_, fun j hj => ?_, fun j hj => ?_, fun j hj => ?_, ?_⟩
      · rw [enp] at hq
        rw [epcl, epix, eC, nC, tC _ 0 _ (by omega)]
        exact a1 q hq
      · rw [nC] at hj
        rw [tC 2 7 j (by omega), tC 2 8 j (by omega), eC, eC]
        exact a4 j hj
      · rw [nC] at hj
        have w := a5 d j hd hj
        by_cases e : d = c ∧ j = i
        · rw [e.1, e.2, tC c 1 i (by omega)]
          rw [e.1, e.2] at w
          exact ⟨w.1, hr⟩
        · rw [tC d 1 j (by omega), tC d 2 j (by omega), tC d 3 j (by omega), tC d 4 j (by omega), tC d 5 j (by omega), tC d 6 j (by omega)]
          exact w
      · rw [nC] at hj
        rw [eC, nC, tC 2 0 j (by omega)]
        simp only [(u 4 (by decide)).2.1]
        exact a6 j hj
      · rw [nC] at hj
        rw [enp, (u 4 (by decide)).2.1, (u 4 (by decide)).2.1, (u 4 (by decide)).2.1]
        exact a7 j hj
      · rw [nC] at hj
        rw [eC, nC]
        exact a8 j hj
      · unfold fOps at a9 ⊢
        simp only [(u 5 (by decide)).1, (u 5 (by decide)).2.1, (u 1 (by decide)).1]
        exact a9
    · have hq : ∀ j : Nat, fQok X' j ↔ fQok X j := fun j => by
        unfold fQok fOpL
        rw [(u 8 (by decide)).2.1, (u 8 (by decide)).2.1, (u 8 (by decide)).2.1, tC 2 8 _ (by omega), eC]
      unfold iQw at i8 ⊢
      simp only [hq, (u 1 (by decide)).1, (u 1 (by decide)).2.1, (u 8 (by decide)).1, (u 8 (by decide)).2.1, (u 45 (by decide)).2.2]
      exact i8
  · obtain ⟨s1, s2, s3, s4, s5⟩ := hS
    refine ⟨?_, ?_, ?_, ?_, ?_⟩
    · unfold mFix at s1 ⊢
      obtain ⟨x1, x2, x3, x4, x5, x6, x7, x8, x9, x10, x11, x12, x13, x14, x15⟩ := s1
      rw [gn11, g11 1 0 (by decide), g11 2 0 (by decide), g11 3 0 (by decide), g11 4 0 (by decide), g11 6 0 (by decide), g11 7 0 (by decide), (g 30 (by decide)).2.2, (g 31 (by decide)).2.2, (g 32 (by decide)).2.2, (g 33 (by decide)).2.2, (g 12 (by decide)).1, gn, (g 14 (by decide)).1, (g 15 (by decide)).1]
      exact ⟨x1, x2, x3, x4, x5, x6, x7, x8, x9, x10, x11, x12, x13, x14, x15⟩
    · rw [gn, (g 46 (by decide)).1]
      intro q hq
      rw [gT 2 q (by omega), gT 3 q (by omega), gT 0 q (by omega), (g 36 (by decide)).2.2, (g 37 (by decide)).2.2]
      exact s2 q hq
    · simp only [(g 14 (by decide)).1, (g 14 (by decide)).2.1, (g 41 (by decide)).2.2]
      exact s3
    · simp only [(g 15 (by decide)).1, (g 15 (by decide)).2.1, (g 12 (by decide)).1]
      exact s4
    · rw [(g 36 (by decide)).1, (g 37 (by decide)).1, (g 41 (by decide)).1, (g 38 (by decide)).1, (g 39 (by decide)).1, (g 40 (by decide)).1, gn, (g 14 (by decide)).1, (g 15 (by decide)).1]
      exact s5
  · exact hB.cg (g 15 (by decide)).1 (g 19 (by decide)) (g 39 (by decide))
theorem chartS_chF {x w : Int} : chF X (fChartS X c i x w) c i := by
  unfold fChartS
  refine ⟨fun d hd => (((ceq.refl.set hd).set hd).set hd).set hd, rfl, fun _ => rfl, fun k j h => ?_⟩
  rw [sT_set, if_neg (by omega), sT_set, if_neg (by omega), sT_set, if_neg (by omega), sT_set, if_neg (by omega)]
theorem chartS_chM {x w : Int} : chM Y (mChartS Y p x w) p := by
  unfold mChartS
  refine ⟨fun d hd => ((((ceq.refl.set hd.1).set hd.2).set hd.2).set hd.2).set hd.2, ⟨rfl, rfl⟩, fun k j h => ?_, fun k j h => ?_⟩
  · rw [sT_set, if_neg (by omega), sT_set, if_neg (by omega), sT_set, if_neg (by omega), sT_set, if_neg (by omega), sT_set, if_neg (by omega)]
  · rw [sT_set, if_neg (by omega), sT_set, if_neg (by omega), sT_set, if_neg (by omega), sT_set, if_neg (by omega), sT_set, if_neg (by omega)]
theorem pairSC {x w : Int} (hR : rR z X Y) (hI : iAll z k X) (hS : mShape Y) (hB : mBox Y) (hp : p < np X) (hx : 0 ≤ x ∧ x ≤ 1000) (hw : 0 ≤ w ∧ w ≤ 500) :
    rR z (fChartS X (pcl X p) (pix X p) x w) (mChartS Y p x w) ∧ iAll z k (fChartS X (pcl X p) (pix X p) x w) ∧ mShape (mChartS Y p x w) ∧ mBox (mChartS Y p x w) := by
  have h := hR.P.2 p hp
  have hw5 := hI.pt.2.2.2.2.1 (pcl X p) (pix X p) (by unfold pcl; omega) (hI.pt.1 p hp).2.1
  have f2 : sT (fChartS X (pcl X p) (pix X p) x w) (pcl X p) 2 (pix X p) = x := by
    unfold fChartS
    rw [sT_set, if_neg (by omega), sT_set, if_neg (by omega), sT_set, if_neg (by omega), sT_set, if_pos ⟨rfl, rfl, rfl⟩]
  have f3 : sT (fChartS X (pcl X p) (pix X p) x w) (pcl X p) 3 (pix X p) = w := by
    unfold fChartS
    rw [sT_set, if_neg (by omega), sT_set, if_neg (by omega), sT_set, if_pos ⟨rfl, rfl, rfl⟩]
  have f5 : sT (fChartS X (pcl X p) (pix X p) x w) (pcl X p) 5 (pix X p) = 0 := by
    unfold fChartS
    rw [sT_set, if_neg (by omega), sT_set, if_pos ⟨rfl, rfl, rfl⟩]
  have f6 : sT (fChartS X (pcl X p) (pix X p) x w) (pcl X p) 6 (pix X p) = 0 := by
    unfold fChartS
    rw [sT_set, if_pos ⟨rfl, rfl, rfl⟩]
  have f4 : sT (fChartS X (pcl X p) (pix X p) x w) (pcl X p) 4 (pix X p) = sT X (pcl X p) 4 (pix X p) := by
    unfold fChartS
    rw [sT_set, if_neg (by omega), sT_set, if_neg (by omega), sT_set, if_neg (by omega), sT_set, if_neg (by omega)]
  refine pairCh hR hI hS hB hp rfl rfl chartS_chF chartS_chM ?_ ?_ ?_ ?_ ?_ ?_
  · rw [f2]; unfold mChartS
    rw [sT_set, if_neg (by omega), sT_set, if_neg (by omega), sT_set, if_neg (by omega), sT_set, if_pos ⟨rfl, rfl, rfl⟩]
  · rw [f3]; unfold mChartS
    rw [sT_set, if_neg (by omega), sT_set, if_neg (by omega), sT_set, if_pos ⟨rfl, rfl, rfl⟩]
  · rw [f5]; unfold mChartS
    rw [sT_set, if_neg (by omega), sT_set, if_pos ⟨rfl, rfl, rfl⟩]
  · rw [f6]; unfold mChartS
    rw [sT_set, if_pos ⟨rfl, rfl, rfl⟩]
  · rw [f4]; unfold mChartS
    rw [sT_set, if_neg (by omega), sT_set, if_neg (by omega), sT_set, if_neg (by omega), sT_set, if_neg (by omega), sT_set, if_neg (by omega)]
    exact h.2.2.2.2.2.2.1
  · rw [f2, f3, f4, f5, f6]
    exact ⟨hx, hw, hw5.2.2.2.1, ⟨Int.le_refl _, Int.natCast_nonneg _⟩, ⟨Int.le_refl _, Int.natCast_nonneg _⟩⟩
end ZBH1
section ZBH2
variable {g : zG} {w0 : hG} {z : Nat → Nat} {a m ol od k scr n i : Nat} {sf : Nat → Int32} {S : hS} {gh : Nat → Nat → Nat} {J : zw_W} {σ : zS} {Q : Option Value ⊕ String → zS → Prop}
def pSC (S S2 : hS) (p x w : Int) : Prop := (∃ v : Int, S2 = mt S v) ∨ (fChartCode S p x w = 0 ∧ S2 = mChartS (fChartS S (pcl S p.toNat) (pix S p.toNat) x w) p.toNat x w)
theorem tS8 (L : lSt g w0 z a m ol od k S gh J σ) (hs : w0.1 scr = some (.inl (8, n, .inl sf))) (hlt : scr < zg_n g) (hi : i + 5 < n) (hn : n ≤ 1000) (hk : (k : Int) ≤ 1000)
    (hQ : ∀ (S2 : hS) (gh2 : Nat → Nat → Nat) (J2 : zw_W) (σ2 : zS), pSC S S2 (scw sf i 1) (scw sf i 2) (scw sf i 3) → lSt g w0 z a m ol od (k + 1) S2 gh2 J2 σ2 → kc σ σ2 1 6 → tW g 1600 2441 (tLV scr a m ol od i) [] σ2 Q) : tW g 1600 867 (tLV scr a m ol od i) [] σ Q := by
  have L0 := L
  obtain ⟨H, ⟨f, hf⟩, ⟨fd, hfd⟩, ha, hm, hC, hR, hI, hS, hB⟩ := L
  have hne := ol_ne hf hfd
  have h1 : rg (scw sf i 1) := rg_scw
  have h2 : rg (scw sf i 2) := rg_scw
  have h3 : rg (scw sf i 3) := rg_scw
  have h13 : sn S 13 = np S := hR.P.1
  obtain ⟨o, σ0, r1, hr⟩ := F_setChart H hI.fix ha h1 h2 h3
  rcases hr with ⟨hk0, rfl, H0, k0⟩ | ⟨hk0, rfl, H0, k0⟩
  · obtain ⟨o2, σ2, p2, rfl, H2, e2⟩ := M_setChart H0 hS.1 hm h1 h2 h3
    have fin : ∀ kk : Int, kk = 1 ∨ kk = 2 → mChartCode S (scw sf i 1) (scw sf i 2) (scw sf i 3) = kk → zEnd g 7 93 [.ref a, iv (scw sf i 1), iv (scw sf i 2), iv (scw sf i 3), .ref ol] σ (.inl (some (iv kk))) σ0 → tW g 1600 867 (tLV scr a m ol od i) [] σ Q := by
      intro kk hkk ec p1
      rw [ec, if_neg (by omega)] at p2 H2
      refine tC8 (f := f) H hs hlt hi hn p1 (by decide) H0 hm p2 (by decide) (by decide) H2 hm ⟨by omega, by omega⟩ ⟨by decide, by decide⟩ (by rw [sT_set, if_pos ⟨rfl, rfl, rfl⟩]) (fun e => by omega) ?_
      refine hQ _ _ _ σ2 (Or.inl ⟨_, rfl⟩) (L0.quiet ffr.refl mfr.refl (gext_rfl (S := S)) (fun _ => Nat.le_refl _) H2 ⟨f, hf⟩ ⟨fd, hfd⟩) ?_
      exact (k0.trans e2).mono (by omega) (by omega)
    by_cases c1 : fIsP S (scw sf i 1)
    · have c1' : 0 ≤ scw sf i 1 ∧ scw sf i 1 < sn S 13 := by
        rw [h13]; exact c1
      have c2 : ¬ ((0 ≤ scw sf i 2 ∧ scw sf i 2 ≤ 1000) ∧ (0 ≤ scw sf i 3 ∧ scw sf i 3 ≤ 500)) := fun q => hk0 (by
        unfold fChartCode
        rw [if_neg (fun w => w c1), if_neg (fun w => w q)])
      have ec : fChartCode S (scw sf i 1) (scw sf i 2) (scw sf i 3) = 3 := by
        unfold fChartCode
        rw [if_neg (fun w => w c1), if_pos c2]
      rw [ec] at r1
      refine fin 2 (Or.inr rfl) ?_ (Lh_setChartX2 (d := 7) (b := ol) H ha r1 (by omega))
      unfold mChartCode
      rw [if_neg (fun w => w c1'), if_pos c2]
    · have c1' : ¬ (0 ≤ scw sf i 1 ∧ scw sf i 1 < sn S 13) := by
        rw [h13]; exact c1
      have ec : fChartCode S (scw sf i 1) (scw sf i 2) (scw sf i 3) = 1 := by
        unfold fChartCode
        rw [if_pos c1]
      rw [ec] at r1
      refine fin 1 (Or.inl rfl) ?_ (Lh_setChartX1 (d := 7) (b := ol) H ha r1 (by omega))
      unfold mChartCode
      rw [if_pos c1']
  · have hc : fIsP S (scw sf i 1) ∧ (0 ≤ scw sf i 2 ∧ scw sf i 2 ≤ 1000) ∧ (0 ≤ scw sf i 3 ∧ scw sf i 3 ≤ 500) := by
      have hk1 := hk0
      unfold fChartCode at hk1
      by_cases c1 : fIsP S (scw sf i 1)
      · rw [if_neg (fun w => w c1)] at hk1
        by_cases c2 : (0 ≤ scw sf i 2 ∧ scw sf i 2 ≤ 1000) ∧ (0 ≤ scw sf i 3 ∧ scw sf i 3 ≤ 500)
        · exact ⟨c1, c2⟩
        · rw [if_pos c2] at hk1
          cases hk1
      · rw [if_pos c1] at hk1
        cases hk1
    obtain ⟨c1, c2, c3⟩ := hc
    obtain ⟨p, ep, hp⟩ := idx c1
    have hp : p < np S := hp
    have eo : (scw sf i 1).toNat = p := by omega
    rw [ep] at r1 H0 h1
    have r1 : zEnd g 6 94 [.ref a, iv (p : Nat), iv (scw sf i 2), iv (scw sf i 3)] σ (.inl (some (iv (sT S (pcl S p) 4 (pix S p))))) σ0 := r1
    have H0 : hRep g w0 σ0 gh (fChartS S (pcl S p) (pix S p) (scw sf i 2) (scw sf i 3)) J := H0
    have hw5 := hI.pt.2.2.2.2.1 (pcl S p) (pix S p) (by unfold pcl; omega) (hI.pt.1 p hp).2.1
    have hcl : pcl S p = 2 ∨ pcl S p = 3 := by unfold pcl; omega
    obtain ⟨σ1, p1, H1, e1⟩ := Lh_setChart (d := 7) H ha r1 (by omega) H0 hf ⟨by omega, by omega⟩
    have fm : mfr S (fChartS S (pcl S p) (pix S p) (scw sf i 2) (scw sf i 3)) := chartS_chF.fr hcl
    have hmS := hS.fr fm
    have hR1 := hR.frY hS hB fm
    have hB1 := hB.fr fm
    have ec : mChartCode (fChartS S (pcl S p) (pix S p) (scw sf i 2) (scw sf i 3)) (scw sf i 1) (scw sf i 2) (scw sf i 3) = 0 := by
      unfold mChartCode
      rw [if_neg (fun w => w ⟨by omega, by show scw sf i 1 < (sn S 13 : Nat); omega⟩), if_neg (fun w => w ⟨c2, c3⟩)]
    obtain ⟨o2, σ2, p2, rfl, H2, e2⟩ := M_setChart (p := scw sf i 1) H1 hmS.1 hm (by rw [ep]; exact h1) h2 h3
    rw [if_pos ec, eo] at p2 H2
    have e8 : sT (fChartS S (pcl S p) (pix S p) (scw sf i 2) (scw sf i 3)) 13 8 p = sT S (pcl S p) 4 (pix S p) := by
      rw [(chartS_chF.1 13 (by omega)).2.1]
      exact (hR.P.2 p hp).2.2.2.2.2.2.1
    rw [e8] at p2
    obtain ⟨q1, q2, q3, q4⟩ := pairSC (X := S) (p := p) hR1 hI hmS hB1 hp c2 c3
    refine tC8 H hs hlt hi hn (by rw [← ep] at p1; exact p1) (by decide) H1 hm p2 (by decide) (by decide) H2 hm ⟨by decide, by decide⟩ ⟨by omega, by omega⟩ (by
      unfold mChartS
      rw [sT_set, if_neg (by omega), sT_set, if_neg (by omega), sT_set, if_neg (by omega), sT_set, if_neg (by omega), sT_set, if_pos ⟨rfl, rfl, rfl⟩]) (fun _ => ⟨zw_up_same _ _ _, va_up_self _ _ _⟩) ?_
    refine hQ (mChartS (fChartS S (pcl S p) (pix S p) (scw sf i 2) (scw sf i 3)) p (scw sf i 2) (scw sf i 3)) _ _ σ2 (Or.inr ⟨hk0, by rw [eo]⟩) (L0.chg (gext_rfl (S := S)) (fun c => Nat.le_refl _) q1 (q2.mono (Nat.le_succ _)) q3 q4 chartS_chM.fr H2 ⟨_, zw_up_same _ _ _⟩ ⟨fd, (zw_up_ne _ _ hne).trans hfd⟩) ?_
    exact ((k0.trans (kc.of e1)).trans e2).mono (by omega) (by omega)
end ZBH2
