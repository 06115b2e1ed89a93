/-! THE SIMULATION: reserving for an order; a new order counts as promised -/
set_option maxRecDepth 100000
section ZBRA
variable {z : Nat → Nat} {k o : Nat} {X Y : hS}
theorem fRAN_succ {p : Nat} {kk : Int} (h : (fComps X o)[p]? = some kk) : fRAN X o (p + 1) = fRAstep o (fOL X o) (fRAN X o p) kk := by
  unfold fRAN
  rw [take_snoc h, List.foldl_append]
  rfl
theorem mRAN_succ {p : Nat} {kk : Int} (h : (mComps Y o)[p]? = some kk) : mRAN Y o (p + 1) = mRAstep o (mRAN Y o p) kk := by
  unfold mRAN
  rw [take_snoc h, List.foldl_append]
  rfl
theorem pairRAN (hz : zInj z) (P : rsP z k o X Y) (hmd : (sT X 8 1 o).toNat % 2 = 0) (hem : sE X 26 (fOL X o) = []) : ∀ p : Nat, p ≤ (fComps X o).length →
    rsP z k o (fRAN X o p).1 (mRAN Y o p).1 ∧ (fRAN X o p).2.1 = (mRAN Y o p).2.1 ∧ rsK X (fRAN X o p).1 Y (mRAN Y o p).1 ∧ (sE (fRAN X o p).1 26 (fOL X o)).length ≤ 100 * p ∧
      ((mRAN Y o p).2.2.1 ≤ 2 * (fRAN X o p).2.2.1 ∧ (mRAN Y o p).2.2.2 ≤ 2 * (fRAN X o p).2.2.2) := by
  obtain ⟨hcm, hc4⟩ := P.comps hmd
  intro p
  induction p with
  | zero =>
    intro _
    refine ⟨P, rfl, rsK.refl, ?_, by show 1 ≤ 2 * 1; omega, by show 4 ≤ 2 * 4; omega⟩
    show (sE X 26 (fOL X o)).length ≤ 0
    rw [hem]; exact Nat.le_refl _
  | succ p ih =>
    intro hp
    obtain ⟨h1, h2, h3, h4, h5⟩ := ih (by omega)
    have hkk : (fComps X o)[p]? = some ((fComps X o)[p]'(by omega)) := List.getElem?_eq_getElem (by omega)
    generalize hK : (fComps X o)[p]'(by omega) = kk at hkk
    have hlm : (mComps Y o).length = (fComps X o).length := by
      have e := congrArg List.length hcm
      rw [List.length_map, List.length_map] at e
      exact e
    have hjj : (mComps Y o)[p]? = some ((mComps Y o)[p]'(by omega)) := List.getElem?_eq_getElem (by omega)
    generalize hJ : (mComps Y o)[p]'(by omega) = jj at hjj
    have hc : sE Y 46 jj.toNat = [sT X 4 0 kk.toNat, sT X 4 1 kk.toNat, sT X 4 2 kk.toNat] := by
      have e := congrArg (fun L => L[p]?) hcm
      simp only [List.getElem?_map, hkk, hjj, Option.map_some] at e
      exact Option.some.inj e
    rw [fRAN_succ hkk, mRAN_succ hjj]
    generalize hF : fRAN X o p = F at *
    generalize hM : mRAN Y o p = M at *
    obtain ⟨XF, tF, aF, bF⟩ := F
    obtain ⟨YM, tM, aM, bM⟩ := M
    simp only at h1 h2 h3 h4 h5
    subst h2
    have eo : fOL XF o = fOL X o := h3.ol
    have k4 : ∀ j i : Nat, sT XF 4 j i = sT X 4 j i := fun j i => (h3.1 4 (by decide)).2.1 j i
    have k46 : ∀ i : Nat, sE YM 46 i = sE Y 46 i := fun i => (h3.2.2.1 46 (by decide)).2.2 i
    have c0 : mCp YM jj.toNat 0 = sT XF 4 0 kk.toNat := by unfold mCp; rw [k46, hc, k4]; rfl
    have c1 : mCp YM jj.toNat 1 = sT XF 4 1 kk.toNat := by unfold mCp; rw [k46, hc, k4]; rfl
    have c2 : mCp YM jj.toNat 2 = sT XF 4 2 kk.toNat := by unfold mCp; rw [k46, hc, k4]; rfl
    have hOa := (h1.1.O.2 o h1.2.2.2.2.1).1
    have hfor : mFor YM jj.toNat (sT YM 15 3 o) = fFor XF kk.toNat (sT XF 8 3 o) := by
      unfold mFor fFor
      rw [c2, hOa.2.2.1]
    have h66 : sn YM 14 = sn XF 6 := h1.1.L.1
    cases tF with
    | false =>
      have eF : fRAstep o (fOL X o) (XF, false, aF, bF) kk = (XF, false, aF, bF) := by unfold fRAstep; exact if_pos rfl
      have eM : mRAstep o (YM, false, aM, bM) jj = (YM, false, aM, bM) := by unfold mRAstep; exact if_pos rfl
      rw [eF, eM]
      exact ⟨h1, rfl, h3, by show (sE XF 26 (fOL X o)).length ≤ _; omega, h5⟩
    | true =>
      by_cases hf : fFor XF kk.toNat (sT XF 8 3 o) = true
      · have eF : fRAstep o (fOL X o) (XF, true, aF, bF) kk = ((fResN XF (fOL X o) (sT XF 4 0 kk.toNat) (sT XF 8 2 o * sT XF 4 1 kk.toNat) (sn XF 6)).1, decide ((fResN XF (fOL X o) (sT XF 4 0 kk.toNat) (sT XF 8 2 o * sT XF 4 1 kk.toNat) (sn XF 6)).2.1 ≤ 0), aF + (fResN XF (fOL X o) (sT XF 4 0 kk.toNat) (sT XF 8 2 o * sT XF 4 1 kk.toNat) (sn XF 6)).2.2.1 + 1, bF + (fResN XF (fOL X o) (sT XF 4 0 kk.toNat) (sT XF 8 2 o * sT XF 4 1 kk.toNat) (sn XF 6)).2.2.2 + 6) := by
          unfold fRAstep
          exact (if_neg (show ¬ (true : Bool) = false by decide)).trans (if_pos hf)
        have eD : mDue YM o jj.toNat = sT XF 8 2 o * sT XF 4 1 kk.toNat := by
          unfold mDue
          rw [hfor, if_pos hf, c1, hOa.2.1]
        have eM : mRAstep o (YM, true, aM, bM) jj = ((mResN YM o (sT XF 4 0 kk.toNat) (sT XF 8 2 o * sT XF 4 1 kk.toNat) (sn XF 6)).1, decide ((mResN YM o (sT XF 4 0 kk.toNat) (sT XF 8 2 o * sT XF 4 1 kk.toNat) (sn XF 6)).2.1 ≤ 0), aM + (mResN YM o (sT XF 4 0 kk.toNat) (sT XF 8 2 o * sT XF 4 1 kk.toNat) (sn XF 6)).2.2.1, bM + (mResN YM o (sT XF 4 0 kk.toNat) (sT XF 8 2 o * sT XF 4 1 kk.toNat) (sn XF 6)).2.2.2) := by
          rw [← eD, ← c0, ← h66]
          unfold mRAstep
          exact if_neg (show ¬ (true : Bool) = false by decide)
        have n100 := h1.2.1.n6
        obtain ⟨r1, r2, r3, r4, r5⟩ := pairRes (pt := sT XF 4 0 kk.toNat) (n := sT XF 8 2 o * sT XF 4 1 kk.toNat) hz h1 (by rw [eo]; omega) (sn XF 6) (Nat.le_refl _)
        rw [eo] at r1 r2 r3 r4 r5
        rw [eF, eM]
        refine ⟨r1, ?_, h3.trans r3, ?_, ?_, ?_⟩
        · show decide _ = decide _
          rw [r2]
        · show (sE (fResN XF _ _ _ _).1 26 _).length ≤ _
          omega
        · show aM + _ ≤ 2 * (aF + _ + 1)
          omega
        · show bM + _ ≤ 2 * (bF + _ + 6)
          omega
      · have eF : fRAstep o (fOL X o) (XF, true, aF, bF) kk = (XF, true, aF, bF) := by
          unfold fRAstep
          exact (if_neg (show ¬ (true : Bool) = false by decide)).trans (if_neg hf)
        have eD : mDue YM o jj.toNat = 0 := by
          unfold mDue
          rw [hfor, if_neg hf]
        have eM : mRAstep o (YM, true, aM, bM) jj = (YM, true, aM, bM) := by
          have e : mRAstep o (YM, true, aM, bM) jj = ((mResN YM o (mCp YM jj.toNat 0) (mDue YM o jj.toNat) (sn YM 14)).1, decide ((mResN YM o (mCp YM jj.toNat 0) (mDue YM o jj.toNat) (sn YM 14)).2.1 ≤ 0), aM + (mResN YM o (mCp YM jj.toNat 0) (mDue YM o jj.toNat) (sn YM 14)).2.2.1, bM + (mResN YM o (mCp YM jj.toNat 0) (mDue YM o jj.toNat) (sn YM 14)).2.2.2) := by
            unfold mRAstep
            exact if_neg (show ¬ (true : Bool) = false by decide)
          rw [e, eD, mResN_zero]
          rfl
        rw [eF, eM]
        exact ⟨h1, rfl, h3, by show (sE XF 26 (fOL X o)).length ≤ _; omega, h5⟩
/-- a new order of a made part counts as promised: it has taken nothing -/
theorem pairPr0 (hz : zInj z) (hR : rR z X Y) (hI : iAll z k X) (hS : mShape Y) (hB : mBox Y) (ho : o < sn X 8) (hst : sT X 8 7 o = (z 0 : Nat)) (hmd : (sT X 8 1 o).toNat % 2 = 0) : rsP z k o (sset X 8 7 o (z 1 : Nat)) (sset Y 15 5 o 112) := by
  obtain ⟨i1, i2, i3, i4, i5, i6, i7, i8, i9, i10, i11, i12, i13, i14⟩ := hI
  have u : ∀ c : Nat, c ≠ 8 → ceq X (sset X 8 7 o (z 1 : Nat)) c := fun c hc => ceq.refl.set hc
  have g : ∀ c : Nat, c ≠ 15 → ceq Y (sset Y 15 5 o 112) c := fun c hc => ceq.refl.set hc
  have v : ∀ j q : Nat, j ≠ 7 → sT (sset X 8 7 o (z 1 : Nat)) 8 j q = sT X 8 j q := fun j q hj => by rw [sT_set, if_neg (by omega)]
  have st : ∀ q : Nat, q ≠ o → sT (sset X 8 7 o (z 1 : Nat)) 8 7 q = sT X 8 7 q := fun q hq => by rw [sT_set, if_neg (by omega)]
  have sto : sT (sset X 8 7 o (z 1 : Nat)) 8 7 o = (z 1 : Nat) := by rw [sT_set, if_pos ⟨rfl, rfl, rfl⟩]
  have m15 : ∀ j q : Nat, j ≠ 5 → sT (sset Y 15 5 o 112) 15 j q = sT Y 15 j q := fun j q hj => by rw [sT_set, if_neg (by omega)]
  have m155 : ∀ q : Nat, q ≠ o → sT (sset Y 15 5 o 112) 15 5 q = sT Y 15 5 q := fun q hq => by rw [sT_set, if_neg (by omega)]
  have m155o : sT (sset Y 15 5 o 112) 15 5 o = 112 := by rw [sT_set, if_pos ⟨rfl, rfl, rfl⟩]
  have z01 : z 0 ≠ z 1 := fun e => absurd (hz 0 1 (by decide) (by decide) e) (by decide)
  have st2 : ∀ (q s : Nat), s ≠ 0 → s ≠ 1 → s < 6 → (sT (sset X 8 7 o (z 1 : Nat)) 8 7 q = (z s : Nat) ↔ sT X 8 7 q = (z s : Nat)) := fun q s h0 h1 h6 => by
    by_cases e : q = o
    · rw [e, sto, hst]
      constructor
      · intro w
        exact absurd (hz 1 s (by decide) (by omega) (by omega)) (fun e => h1 e.symm)
      · intro w
        exact absurd (hz 0 s (by decide) (by omega) (by omega)) (fun e => h0 e.symm)
    · rw [st q e]
  have hem : sE X 26 (fOL X o) = [] := (i12 o ho).1 hst
  have tlo : fTl X o = [] := by unfold fTl; rw [hem]; rfl
  have etl : ∀ q : Nat, fTl (sset X 8 7 o (z 1 : Nat)) q = fTl X q := fun q => rfl
  have edv : ∀ q : Nat, fDv (sset X 8 7 o (z 1 : Nat)) q = fDv X q := fun q => rfl
  obtain ⟨s1, hs1, hs2, hs3, hs4, hs5⟩ := (hR.O.2 o ho).2.1.1
  have e1 : s1 = 0 := hz s1 0 (by omega) (by decide) (by omega)
  subst e1
  refine ⟨⟨hR.G, hR.M, ?_, ?_, ?_, ?_, ?_⟩, ⟨i1, i2.cg (u 2 (by decide)) (u 3 (by decide)) (u 4 (by decide)) (u 5 (by decide)) (u 21 (by decide)) (u 24 (by decide)) (u 25 (by decide)) (Nat.le_refl _), i3.cg (u 0 (by decide)) (u 1 (by decide)) (u 45 (by decide)).1, i4.cg (u 6 (by decide)) (u 7 (by decide)) (u 21 (by decide)) (u 26 (by decide)), i5.cg rfl (u 7 (by decide)) (u 26 (by decide)) (u 27 (by decide)), ?_, ?_, ?_, ?_, ?_, ?_, ?_, ?_, i14.cg (u 9 (by decide)) (u 28 (by decide)) (u 48 (by decide))⟩, ?_, hB, ho, sto⟩
  · exact rP_congr (fun c k i hc => (u c (by omega)).2.1 k i) (fun c i hc => rfl) (fun k i => (g 13 (by decide)).2.1 k i) (fun c i hc => rfl) rfl hR.P
  · exact hR.L.gr (pgr.same rfl) (u 6 (by decide)) (u 7 (by decide)) (u 26 (by decide)) (g 14 (by decide)) (g 41 (by decide))
  · refine ⟨hR.O.1, fun q hq => ?_⟩
    obtain ⟨g1, g2, g3, g4⟩ := hR.O.2 q hq
    refine ⟨rOa_congr (fun j hj => v j q (by omega)) rfl (fun j hj => m15 j q (by omega)) g1, ?_, ⟨?_, g3.2⟩, ?_⟩
    · by_cases e : q = o
      · subst e
        refine ⟨⟨1, by decide, sto, m155o, ?_, ?_⟩, ?_, ?_, ?_, ?_⟩
        · rw [m15 13 q (by decide), hs4, if_neg (by omega), if_neg (by omega)]
        · rw [m15 14 q (by decide), hs5, if_neg (by decide), if_neg (by decide)]
        · rw [m15 8 q (by decide), v 8 q (by decide)]; exact g2.2.1
        · rw [m15 9 q (by decide), v 9 q (by decide)]; exact g2.2.2.1
        · rw [m15 11 q (by decide), v 10 q (by decide)]; exact g2.2.2.2.1
        · rw [m15 12 q (by decide), v 13 q (by decide)]; exact g2.2.2.2.2
      · exact rOb_congr (fun j hj => by rw [sT_set, if_neg (by omega)]) (fun j hj => by rw [sT_set, if_neg (by omega)]) g2
    · exact g3.1
    · exact rD_congr rfl rfl (fun t _ => ⟨rfl, rfl⟩) rfl (m15 15 q (by decide)) g4
  · intro m hm
    obtain ⟨a1, a2⟩ := hR.Q m hm
    refine ⟨a1, fun x => (a2 x).trans ?_⟩
    rw [m15 10 _ (by decide)]
    by_cases e : x.toNat = o
    · rw [e, m155o, hs3]
      constructor
      · rintro ⟨b1, b2, b3, b4⟩; exact absurd (show (45 : Int) = 119 from b3) (by decide)
      · rintro ⟨b1, b2, b3, b4⟩; exact absurd b3 (by decide)
    · rw [m155 _ e]; exact Iff.rfl
  · exact rS_congr (fun x _ => ⟨rfl, (u 9 (by decide)).2.1 0 x⟩) (fun c i hc => rfl) rfl hR.S
  · intro q hq
    obtain ⟨a0, a1, a2, a3, a4, a5, a6, a7, a8, a9, a10, a11, a12, a13, a14, a15, a16⟩ := i6 q hq
    rw [v 0 q (by decide), v 1 q (by decide), v 2 q (by decide), v 3 q (by decide), v 4 q (by decide), v 5 q (by decide), v 6 q (by decide), v 8 q (by decide), v 9 q (by decide), v 10 q (by decide), v 11 q (by decide), v 12 q (by decide), v 13 q (by decide)]
    by_cases e : q = o
    · subst e
      rw [sto]
      refine ⟨a0, a1, a2, a3, a4, a5, a6, ⟨1, by decide, rfl⟩, a8, a9, a10, a11, a12, fun w => by omega, fun _ => a14 (Or.inl hst), fun _ _ => a15 (fun w => ?_) (fun w => ?_), a16⟩
      · exact absurd (hz 0 4 (by decide) (by decide) (by omega)) (by decide)
      · exact absurd (hz 0 5 (by decide) (by decide) (by omega)) (by decide)
    · rw [st q e]
      exact ⟨a0, a1, a2, a3, a4, a5, a6, a7, a8, a9, a10, a11, a12, a13, a14, a15, a16⟩
  · obtain ⟨a1, a2, a3, a4⟩ := i7
    simp only [iSp, v 5 _ (by decide), v 6 _ (by decide), st2 _ 4 (by decide) (by decide) (by decide), st2 _ 5 (by decide) (by decide) (by decide)]
    exact ⟨a1, a2, a3, a4⟩
  · have hq : ∀ j : Nat, fQok (sset X 8 7 o (z 1 : Nat)) j ↔ fQok X j := fun j => by
      have e : fOpL (sset X 8 7 o (z 1 : Nat)) j = fOpL X j := rfl
      unfold fQok
      rw [v 1 j (by decide), v 9 j (by decide), v 8 j (by decide), e]
      exact Iff.rfl
    obtain ⟨a1, a2, a3⟩ := i8
    refine ⟨fun m hm x hx => ?_, fun m hm => ?_, a3⟩
    · rw [st2 _ 2 (by decide) (by decide) (by decide), hq]
      exact a1 m hm x hx
    · have e17 : sT (sset X 8 7 o (z 1 : Nat)) 1 7 m = sT X 1 7 m := rfl
      rw [e17, st2 _ 3 (by decide) (by decide) (by decide), hq]
      exact a2 m hm
  · intro l hl
    obtain ⟨a1, a2, a3⟩ := i9 l hl
    have b3 : ∀ q : Nat, q ≠ o → fPr z (sset X 8 7 o (z 1 : Nat)) q = fPr z X q := fun q hq => by unfold fPr; rw [st q hq]
    have c1 : isum (sn X 8) (fun q => if fPr z (sset X 8 7 o (z 1 : Nat)) q = true then pl (fTl X q) l else 0) = isum (sn X 8) (fun q => if fPr z X q = true then pl (fTl X q) l else 0) := isum_cg (fun q hq => by
      show (if fPr z (sset X 8 7 o (z 1 : Nat)) q = true then pl (fTl X q) l else 0) = _
      by_cases e : q = o
      · rw [e, tlo, pl_nil]
        split <;> split <;> rfl
      · rw [b3 q e])
    have c2 : isum (sn X 8) (fun q => (if fPr z (sset X 8 7 o (z 1 : Nat)) q = true then 0 else pl (fTl X q) l) + pl (fDv X q) l) = isum (sn X 8) (fun q => (if fPr z X q = true then 0 else pl (fTl X q) l) + pl (fDv X q) l) := isum_cg (fun q hq => by
      show (if fPr z (sset X 8 7 o (z 1 : Nat)) q = true then 0 else pl (fTl X q) l) + pl (fDv X q) l = _
      by_cases e : q = o
      · rw [e, tlo, pl_nil]
        split <;> split <;> rfl
      · rw [b3 q e])
    refine ⟨a1.trans c1.symm, a2, ?_⟩
    exact a3.trans (congrArg (fun x => sT X 6 4 l + x) c2.symm)
  · have hu : ∀ q : Nat, fUw z (sset X 8 7 o (z 1 : Nat)) q = fUw z X q := fun q => by
      unfold fUw fStg
      rw [decide_eq_decide.mpr (st2 q 2 (by decide) (by decide) (by decide)), decide_eq_decide.mpr (st2 q 3 (by decide) (by decide) (by decide))]
    have co : ∀ q : Nat, fCoO z (sset X 8 7 o (z 1 : Nat)) q = fCoO z X q := fun q => by
      unfold fCoO
      rw [hu, v 10 q (by decide)]
      rfl
    obtain ⟨a1, a2, a3, a4, a5, a6⟩ := i10
    have cs : fSumO z (sset X 8 7 o (z 1 : Nat)) (sn X 8) = fSumO z X (sn X 8) := by
      unfold fSumO
      rw [List.map_congr_left (fun q _ => co q)]
      rfl
    refine ⟨a1, fun q hq => ?_, a3, a4, cs.trans a5, a6⟩
    rw [v 10 q (by decide)]; exact a2 q hq
  · intro q hq hb t ht
    by_cases e : q = o
    · rw [e] at ht
      have ht : t ∈ sE X 26 (fOL X o) := ht
      rw [hem] at ht
      cases ht
    · have hb : fPr z X q = true := by
        unfold fPr at hb ⊢
        rw [st q e] at hb
        exact hb
      exact i11 q hq hb t ht
  · intro q hq
    obtain ⟨a1, a2, a3⟩ := i12 q hq
    refine ⟨fun h => ?_, fun h => ?_, a3⟩
    · by_cases e : q = o
      · rw [e]; exact hem
      · rw [st q e] at h; exact a1 h
    · exact a2 (fun w => h ((st2 q 5 (by decide) (by decide) (by decide)).mpr w))
  · obtain ⟨a1, a2, a3, a4, a5⟩ := i13
    refine ⟨a1, a2, a3, ?_, a5⟩
    simp only [st2 _ 4 (by decide) (by decide) (by decide), st2 _ 5 (by decide) (by decide) (by decide)]
    exact a4
  · obtain ⟨s1, s2, s3, s4, s5⟩ := hS
    refine ⟨s1, s2, s3, fun q hq => ?_, s5⟩
    rw [m15 0 q (by decide), m15 6 q (by decide), m15 7 q (by decide), m15 16 q (by decide), m15 10 q (by decide)]
    obtain ⟨w1, w2, w3, w4, w5, w6⟩ := s4 q hq
    refine ⟨w1, w2, w3, w4, w5, fun h => ?_⟩
    by_cases e : q = o
    · rw [e, m155o] at h
      exact absurd h (by decide)
    · rw [m155 q e] at h
      exact w6 h
end ZBRA
