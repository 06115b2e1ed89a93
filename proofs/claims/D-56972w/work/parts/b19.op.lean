/-! THE SIMULATION: addOperation -/
set_option maxRecDepth 100000
section ZBO1
variable {z : Nat → Nat} {k : Nat} {X Y : hS} {p m al t : Int}
theorem opCode (hR : rR z X Y) (hI : iAll z k X) (hS : mShape Y) : mOpCode Y p m al t = (fOpCode X p m al t : Nat) := by
  have h13 : sn Y 13 = np X := hR.P.1
  have h12 : sn Y 12 = sn X 1 := hR.M.1
  have e0 : (mIsP Y p ∧ mIsM Y m ∧ (al = -1 ∨ mIsM Y al)) ↔ (fIsP X p ∧ (0 ≤ m ∧ m < sn X 1) ∧ (al = -1 ∨ (0 ≤ al ∧ al < sn X 1))) := by
    show ((0 ≤ p ∧ p < sn Y 13) ∧ (0 ≤ m ∧ m < sn Y 12) ∧ (al = -1 ∨ (0 ≤ al ∧ al < sn Y 12))) ↔ ((0 ≤ p ∧ p < np X) ∧ (0 ≤ m ∧ m < sn X 1) ∧ (al = -1 ∨ (0 ≤ al ∧ al < sn X 1)))
    rw [h13, h12]
  unfold mOpCode fOpCode
  by_cases h1 : fIsP X p ∧ (0 ≤ m ∧ m < sn X 1) ∧ (al = -1 ∨ (0 ≤ al ∧ al < sn X 1))
  · rw [if_neg (show ¬ ¬ (mIsP Y p ∧ mIsM Y m ∧ (al = -1 ∨ mIsM Y al)) from fun q => q (e0.mpr h1)), if_neg (show ¬ ¬ (fIsP X p ∧ (0 ≤ m ∧ m < sn X 1) ∧ (al = -1 ∨ (0 ≤ al ∧ al < sn X 1))) from fun q => q h1)]
    obtain ⟨i, rfl, hi⟩ := idx h1.1
    have hi : i < np X := hi
    rw [Int.toNat_natCast]
    by_cases h2 : fPc X (i : Nat) % 2 = 0
    · rw [if_neg (show ¬ ¬ sT Y 13 0 i = 1 from fun q => q ((hR.mdIff hi).mpr h2)), if_neg (show ¬ ¬ fPc X (i : Nat) % 2 = 0 from fun q => q h2)]
      by_cases h3 : 1 ≤ t ∧ t ≤ 20
      · have h3' : ¬ ¬ (1 ≤ t ∧ t ≤ 20) := fun q => q h3
        rw [if_neg h3', if_neg h3']
        obtain ⟨m1, m2, m3, m4, m5, m6, m7, m8⟩ := hR.madeAt hI hS hi h2
        have hl := congrArg List.length m8
        rw [List.length_map, List.length_map] at hl
        have h4 := (hI.pt.2.2.2.1 _ m1).2.2.2
        rw [m5, m3, hl]
        by_cases h5 : 3 ≤ (sE X 25 (pix X i)).length
        · rw [if_pos (by omega), if_pos h5]; rfl
        · rw [if_neg (by omega), if_neg h5]; rfl
      · rw [if_pos (show ¬ (1 ≤ t ∧ t ≤ 20) from h3), if_pos (show ¬ (1 ≤ t ∧ t ≤ 20) from h3)]; rfl
    · rw [if_pos (show ¬ sT Y 13 0 i = 1 from fun q => h2 ((hR.mdIff hi).mp q)), if_pos h2]; rfl
  · rw [if_pos (show ¬ (mIsP Y p ∧ mIsM Y m ∧ (al = -1 ∨ mIsM Y al)) from fun q => h1 (e0.mp q)), if_pos h1]; rfl
def mAO (Y : hS) (p m al t : Int) : hS := ssE (mTri (mt Y 0) m al t) 37 (mOlst Y p) (sE Y 37 (mOlst Y p) ++ [(sn Y 46 : Int)])
theorem fAO_ceq {d : Nat} (h5 : d ≠ 5) (h25 : d ≠ 25) : ceq X (fAddOperation X p m al t) d := by
  unfold fAddOperation kFOperation
  exact ((((ceq.refl.snw h5).set h5).set h5).set h5).ssE h25
theorem fAO_old {k i : Nat} (h : i ≠ sn X 5) : sT (fAddOperation X p m al t) 5 k i = sT X 5 k i := by
  unfold fAddOperation kFOperation
  rw [sT_ssE, sT_set, if_neg (by omega), sT_set, if_neg (by omega), sT_set, if_neg (by omega), sT_w, if_neg (by omega)]
theorem fAO_new {k : Nat} (hk : k < 3) : sT (fAddOperation X p m al t) 5 k (sn X 5) = match k with
  | 0 => m | 1 => al | _ => t := by
  unfold fAddOperation kFOperation
  simp only [sT_ssE, sT_set, sT_w]
  match k, hk with
  | 0, _ => rfl
  | 1, _ => rfl
  | 2, _ => rfl
theorem fAO_n5 : sn (fAddOperation X p m al t) 5 = sn X 5 + 1 := rfl
theorem fAO_25 {i : Nat} : sE (fAddOperation X p m al t) 25 i = if i = fOl X p then sE X 25 (fOl X p) ++ [(sn X 5 : Int)] else sE X 25 i := by
  unfold fAddOperation kFOperation
  rw [sE_ssE]
  by_cases h : i = fOl X p
  · rw [if_pos ⟨rfl, h⟩, if_pos h]
  · rw [if_neg (fun q => h q.2), if_neg h, sE_set, sE_set, sE_set, sE_w, if_neg (by omega)]
theorem mAO_ceq {d : Nat} (h11 : d ≠ 11) (h37 : d ≠ 37) (h46 : d ≠ 46) : ceq Y (mAO Y p m al t) d := by
  unfold mAO mTri
  exact (((((ceq.refl.set h11).snw h46).ssA h46).ssA h46).ssA h46).ssE h37
theorem mAO_11 {k i : Nat} (hk : k ≠ 0) : sT (mAO Y p m al t) 11 k i = sT Y 11 k i := by
  show sT (snw (mt Y 0) 46 (List.replicate 3 0)) 11 k i = _
  rw [sT_w, if_neg (by omega), sT_set, if_neg (by omega)]
theorem mAO_thrown : sT (mAO Y p m al t) 11 0 0 = 0 := by
  show sT (snw (mt Y 0) 46 (List.replicate 3 0)) 11 0 0 = _
  rw [sT_w, if_neg (by omega), sT_set, if_pos ⟨rfl, rfl, rfl⟩]
theorem mAO_37 {i : Nat} : sE (mAO Y p m al t) 37 i = if i = mOlst Y p then sE Y 37 (mOlst Y p) ++ [(sn Y 46 : Int)] else sE Y 37 i := by
  unfold mAO
  rw [sE_ssE]
  by_cases h : i = mOlst Y p
  · rw [if_pos ⟨rfl, h⟩, if_pos h]
  · rw [if_neg (fun q => h q.2), if_neg h, (mTri_ceq (Y := mt Y 0) (by decide)).2.2]
    rfl
theorem mAO_46 {i : Nat} : sE (mAO Y p m al t) 46 i = if i = sn Y 46 then [m, al, t] else sE Y 46 i := by
  unfold mAO
  rw [sE_ssE, if_neg (by omega)]
  exact mTri_E (Y := mt Y 0)
theorem mAO_n46 : sn (mAO Y p m al t) 46 = sn Y 46 + 1 := rfl
theorem pairAO (hR : rR z X Y) (hI : iAll z k X) (hS : mShape Y) (hc : fOpCode X p m al t = 0) : rR z (fAddOperation X p m al t) (mAO Y p m al t) ∧ iAll z k (fAddOperation X p m al t) ∧ mShape (mAO Y p m al t) := by
  have g := fun (d : Nat) (h : d ≠ 11 ∧ d ≠ 37 ∧ d ≠ 46) => mAO_ceq (Y := Y) (p := p) (m := m) (al := al) (t := t) h.1 h.2.1 h.2.2
  have u := fun (d : Nat) (h : d ≠ 5 ∧ d ≠ 25) => fAO_ceq (X := X) (p := p) (m := m) (al := al) (t := t) h.1 h.2
  have h13 : sn Y 13 = np X := hR.P.1
  have hcc : fIsP X p ∧ ((0 ≤ m ∧ m < sn X 1) ∧ (al = -1 ∨ (0 ≤ al ∧ al < sn X 1))) ∧ (fPc X p % 2 = 0 ∧ True) ∧ (1 ≤ t ∧ t ≤ 20) ∧ ¬ 3 ≤ (sE X 25 (fOl X p)).length := by
    unfold fOpCode at hc
    by_cases h1 : fIsP X p ∧ (0 ≤ m ∧ m < sn X 1) ∧ (al = -1 ∨ (0 ≤ al ∧ al < sn X 1))
    · rw [if_neg (show ¬ ¬ (fIsP X p ∧ (0 ≤ m ∧ m < sn X 1) ∧ (al = -1 ∨ (0 ≤ al ∧ al < sn X 1))) from fun q => q h1)] at hc
      by_cases h2 : fPc X p % 2 = 0
      · rw [if_neg (show ¬ ¬ fPc X p % 2 = 0 from fun q => q h2)] at hc
        by_cases h3 : 1 ≤ t ∧ t ≤ 20
        · rw [if_neg (show ¬ ¬ (1 ≤ t ∧ t ≤ 20) from fun q => q h3)] at hc
          by_cases h4 : 3 ≤ (sE X 25 (fOl X p)).length
          · rw [if_pos h4] at hc
            cases hc
          · exact ⟨h1.1, h1.2, ⟨h2, trivial⟩, h3, h4⟩
        · rw [if_pos h3] at hc
          cases hc
      · rw [if_pos h2] at hc
        cases hc
    · rw [if_pos h1] at hc
      cases hc
  obtain ⟨c1, c2, c3, c4, c5⟩ := hcc
  obtain ⟨i, rfl, hi⟩ := idx c1
  have hi : i < np X := hi
  obtain ⟨m1, m2, m3, m4, m5, m6, m7, m8⟩ := hR.madeAt hI hS hi c3.1
  have ne4 : ∀ q : Nat, q < np X → fPc X (q : Nat) % 2 = 0 → q ≠ i → pix X q ≠ pix X i := by
    intro q hq hm hne e
    apply hne
    have h1 := (hI.pt.1 q hq).2.2
    have h2 := (hI.pt.1 i hi).2.2
    have e1 : pcl X q = pcl X i := by
      have := c3.1
      unfold pcl
      omega
    rw [e1, e] at h1
    omega
  refine ⟨⟨?_, ?_, ?_, ?_, ?_, ?_, ?_⟩, ?_, ?_⟩
  · have hg := hR.G
    unfold rG at hg ⊢
    rw [mAO_11 (by decide), mAO_11 (by decide), (u 0 (by decide)).2.1, (u 0 (by decide)).2.1]
    exact hg
  · exact rM_congr (fun k i => (u 1 (by decide)).2.1 k i) (u 1 (by decide)).1 (fun k i => (g 12 (by decide)).2.1 k i) (g 12 (by decide)).1 hR.M
  · have enp : np (fAddOperation X (i : Nat) m al t) = np X := by
      show (sE _ 21 0).length = (sE X 21 0).length
      rw [(u 21 (by decide)).2.2]
    have epc : ∀ q : Int, fPc (fAddOperation X (i : Nat) m al t) q = fPc X q := fPc_congr ((u 21 (by decide)).2.2 0)
    refine ⟨by rw [(g 13 (by decide)).1, enp]; exact h13, fun q hq => ?_⟩
    rw [enp] at hq
    have h := hR.P.2 q hq
    have epcl : pcl (fAddOperation X (i : Nat) m al t) q = pcl X q := by unfold pcl; rw [epc]
    have epix : pix (fAddOperation X (i : Nat) m al t) q = pix X q := by unfold pix; rw [epc]
    have hcl : pcl X q ≠ 5 ∧ pcl X q ≠ 25 := by unfold pcl; omega
    rw [epc, epcl, epix]
    simp only [(u _ hcl).2.1, (g 13 (by decide)).2.1]
    refine ⟨h.1, h.2.1, h.2.2.1, h.2.2.2.1, h.2.2.2.2.1, h.2.2.2.2.2.1, h.2.2.2.2.2.2.1, fun hm => ?_⟩
    obtain ⟨w1, w2⟩ := h.2.2.2.2.2.2.2 hm
    obtain ⟨-, -, -, s4, s5⟩ := hS.2.1 q (by omega)
    have hq2 : pix X q < sn X 2 := by
      rcases hI.pt.pc hq with ⟨q1, q2, -⟩ | ⟨q1, q2, -⟩
      · exact q2
      · omega
    have a6 := hI.pt.2.2.2.2.2.1 (pix X q) hq2
    have old36 : ∀ L : List Int, (∀ j ∈ L, 0 ≤ j ∧ j < sn Y 46) → L.map (fun j => sE (mAO Y (i : Nat) m al t) 46 j.toNat) = L.map (fun j => sE Y 46 j.toNat) := fun L hL => List.map_congr_left (fun j hj => by
      have := hL j hj
      rw [mAO_46, if_neg (by omega)])
    have a8 := hI.pt.2.2.2.2.2.2.2.1 (pix X q) hq2
    have old25 : ∀ L : List Int, (∀ j ∈ L, 0 ≤ j ∧ j < sn X 5) → L.map (fun k => [sT (fAddOperation X (i : Nat) m al t) 5 0 k.toNat, sT (fAddOperation X (i : Nat) m al t) 5 1 k.toNat, sT (fAddOperation X (i : Nat) m al t) 5 2 k.toNat]) = L.map (fun k => [sT X 5 0 k.toNat, sT X 5 1 k.toNat, sT X 5 2 k.toNat]) := fun L hL => List.map_congr_left (fun j hj => by
      have := hL j hj
      rw [fAO_old (by omega), fAO_old (by omega), fAO_old (by omega)])
    unfold rCs at w1 ⊢
    unfold rOs at w2 ⊢
    rw [epix]
    constructor
    · rw [(g 36 (by decide)).2.2, old36 _ s4, (u 24 (by decide)).2.2]
      simp only [(u 4 (by decide)).2.1]
      exact w1
    · by_cases e : q = i
      · subst e
        rw [mAO_37, fAO_25, m5, m3, if_pos rfl, if_pos rfl, List.map_append, List.map_append, old36 _ s5, old25 _ a8, w2]
        congr 1
        show [sE (mAO Y _ m al t) 46 ((sn Y 46 : Nat) : Int).toNat] = [[_, _, _]]
        rw [Int.toNat_natCast, Int.toNat_natCast, mAO_46, if_pos rfl, fAO_new (by decide), fAO_new (by decide), fAO_new (by decide)]
        rfl
      · rw [mAO_37, fAO_25, m5, m3, if_neg e, if_neg (ne4 q hq hm e), old36 _ s5, old25 _ a8]
        exact w2
  · exact hR.L.gr (pgr.same ((u 21 (by decide)).2.2 0)) (u 6 (by decide)) (u 7 (by decide)) (u 26 (by decide)) (g 14 (by decide)) (g 41 (by decide))
  · exact hR.O.gr (pgr.same ((u 21 (by decide)).2.2 0)) (u 7 (by decide)) (u 8 (by decide)) (u 26 (by decide)) (u 27 (by decide)) (g 15 (by decide)) (g 19 (by decide)) (g 38 (by decide)) (g 39 (by decide)) (g 40 (by decide))
  · exact rQ_congr (fun m _ => (u 45 (by decide)).2.2 m) (u 1 (by decide)).1 (u 8 (by decide)).1 (fun o _ => ⟨(g 15 (by decide)).2.1 5 o, (g 15 (by decide)).2.1 10 o⟩) hR.Q
  · exact rS_congr (fun x _ => ⟨(u 28 (by decide)).2.2 x, (u 9 (by decide)).2.1 0 x⟩) (fun d i hd => (g d (by omega)).2.2 i) (g 35 (by decide)).1 hR.S
  · obtain ⟨i1, i2, i3, i4, i5, i6, i7, i8, i9, i10, i11, i12, i13, i14⟩ := hI
    refine ⟨?_, ?_, i3.cg (u 0 (by decide)) (u 1 (by decide)) (u 45 (by decide)).1, i4.cg (u 6 (by decide)) (u 7 (by decide)) (u 21 (by decide)) (u 26 (by decide)), i5.cg (u 6 (by decide)).1 (u 7 (by decide)) (u 26 (by decide)) (u 27 (by decide)), i6.cg (u 6 (by decide)) (u 8 (by decide)) (u 21 (by decide)) (u 26 (by decide)).1 (u 27 (by decide)).1, i7.cg (u 6 (by decide)) (u 8 (by decide)), ?_, i9.cg (u 6 (by decide)) (u 7 (by decide)) (u 8 (by decide)) (u 26 (by decide)) (u 27 (by decide)), i10.cg (u 0 (by decide)) (u 6 (by decide)) (u 7 (by decide)) (u 8 (by decide)) (u 27 (by decide)), i11.cg (u 6 (by decide)) (u 7 (by decide)) (u 8 (by decide)) (u 26 (by decide)), i12.cg (u 8 (by decide)) (u 26 (by decide)) (u 27 (by decide)), i13.cg (u 0 (by decide)) (u 6 (by decide)).1 (u 8 (by decide)) (u 28 (by decide)), i14.cg (u 9 (by decide)) (u 28 (by decide)) (u 48 (by decide))⟩
    · unfold fFix at i1 ⊢
      have f0 := u 0 (by decide)
      rw [f0.1, f0.2.1, f0.2.1, f0.2.1, f0.2.1, f0.2.1, (u 20 (by decide)).2.2, (u 21 (by decide)).2.2, (u 22 (by decide)).2.2, (u 23 (by decide)).2.2, (u 1 (by decide)).1, (u 6 (by decide)).1, (u 8 (by decide)).1]
      exact i1
    · obtain ⟨a1, a2, a3, a4, a5, a6, a7, a8, a9⟩ := i2
      have enp : np (fAddOperation X (i : Nat) m al t) = np X := by
        show (sE _ 21 0).length = (sE X 21 0).length
        rw [(u 21 (by decide)).2.2]
      have epc : ∀ q : Int, fPc (fAddOperation X (i : Nat) m al t) q = fPc X q := fPc_congr ((u 21 (by decide)).2.2 0)
      have n5 : sn (fAddOperation X (i : Nat) m al t) 5 = sn X 5 + 1 := rfl
      refine ⟨fun q hq => ?_, by rw [(u 24 (by decide)).1, (u 2 (by decide)).1]; exact a2, by rw [show sn (fAddOperation X (i : Nat) m al t) 25 = sn X 25 from rfl, (u 2 (by decide)).1]; exact a3, fun j hj => ?_, fun d j hd hj => ?_, fun j hj => ?_, fun j hj => ?_, fun j hj => ?_, ?_⟩
      · rw [enp] at hq
        have hcl : pcl X q ≠ 5 ∧ pcl X q ≠ 25 := by unfold pcl; omega
        have epcl : pcl (fAddOperation X (i : Nat) m al t) q = pcl X q := by unfold pcl; rw [epc]
        have epix : pix (fAddOperation X (i : Nat) m al t) q = pix X q := by unfold pix; rw [epc]
        rw [epcl, epix, (u 21 (by decide)).2.2, (u _ hcl).1, (u _ hcl).2.1]
        exact a1 q hq
      · rw [(u 2 (by decide)).1] at hj
        obtain ⟨b1, b2, b3, b4⟩ := a4 j hj
        rw [(u 2 (by decide)).2.1, (u 2 (by decide)).2.1, (u 24 (by decide)).2.2, fAO_25]
        refine ⟨b1, b2, b3, ?_⟩
        by_cases e : j = fOl X (i : Nat)
        · rw [if_pos e, List.length_append]
          show _ + 1 ≤ 3
          omega
        · rw [if_neg e]
          exact b4
      · have hd4 : d ≠ 5 ∧ d ≠ 25 := by omega
        rw [(u d hd4).1] at hj
        simp only [(u d hd4).2.1]
        exact a5 d j hd hj
      · rw [(u 2 (by decide)).1] at hj
        rw [(u 24 (by decide)).2.2, (u 2 (by decide)).2.1, (u 4 (by decide)).1]
        simp only [(u 4 (by decide)).2.1]
        exact a6 j hj
      · rw [(u 4 (by decide)).1] at hj
        rw [enp]
        simp only [(u 4 (by decide)).2.1]
        exact a7 j hj
      · rw [(u 2 (by decide)).1] at hj
        rw [fAO_25, n5]
        intro q hq
        by_cases e : j = fOl X (i : Nat)
        · rw [if_pos e, List.mem_append, List.mem_singleton] at hq
          rcases hq with hq | hq
          · rw [← e] at hq
            have w := a8 j hj q hq
            omega
          · omega
        · rw [if_neg e] at hq
          have w := a8 j hj q hq
          omega
      · intro j hj
        rw [n5] at hj
        rw [(u 1 (by decide)).1]
        by_cases e : j = sn X 5
        · subst e
          rw [fAO_new (by decide), fAO_new (by decide), fAO_new (by decide)]
          exact ⟨c2.1, c2.2, c4⟩
        · rw [fAO_old e, fAO_old e, fAO_old e]
          exact a9 j (by omega)
    · obtain ⟨a1, a2, a3⟩ := i8
      have u8 := u 8 (by decide)
      have hq : ∀ j : Nat, fQok X j → fQok (fAddOperation X (i : Nat) m al t) j := fun j h => by
        unfold fQok fOpL at h ⊢
        rw [u8.2.1, u8.2.1, u8.2.1, (u 2 (by decide)).2.1, fAO_25]
        refine ⟨h.1, ⟨h.2.1.1, ?_, h.2.1.2.2⟩, h.2.2⟩
        have w := h.2.1.2.1
        by_cases e : (sT X 2 8 ((sT X 8 1 j).toNat / 2)).toNat = fOl X (i : Nat)
        · rw [if_pos e, List.length_append]
          rw [e] at w
          omega
        · rw [if_neg e]
          exact w
      refine ⟨fun q hm x hx => ?_, fun q hm => ?_, fun q w hm hw => ?_⟩
      · rw [(u 1 (by decide)).1] at hm
        rw [(u 45 (by decide)).2.2] at hx
        obtain ⟨b1, b2, b3, b4⟩ := a1 q hm x hx
        rw [u8.1, u8.2.1]
        exact ⟨b1, b2, b3, hq _ b4⟩
      · rw [(u 1 (by decide)).1] at hm
        obtain ⟨b1, b2⟩ := a2 q hm
        rw [(u 1 (by decide)).2.1, (u 1 (by decide)).2.1, u8.1, u8.2.1]
        refine ⟨b1, fun h => ?_⟩
        obtain ⟨d1, d2, d3, d4⟩ := b2 h
        exact ⟨d1, d2, d3, hq _ d4⟩
      · rw [(u 1 (by decide)).1] at hm hw
        rw [(u 1 (by decide)).2.1, (u 1 (by decide)).2.1]
        exact a3 q w hm hw
  · obtain ⟨s1, s2, s3, s4, s5⟩ := hS
    refine ⟨?_, fun q hq => ?_, ?_, ?_, ?_⟩
    · unfold mFix at s1 ⊢
      rw [mAO_11 (by decide), mAO_11 (by decide), mAO_11 (by decide), mAO_11 (by decide), mAO_11 (by decide), mAO_11 (by decide), (g 30 (by decide)).2.2, (g 31 (by decide)).2.2, (g 32 (by decide)).2.2, (g 33 (by decide)).2.2, (g 12 (by decide)).1, (g 13 (by decide)).1, (g 14 (by decide)).1, (g 15 (by decide)).1]
      exact s1
    · rw [(g 13 (by decide)).1] at hq
      obtain ⟨b1, b2, b3, b4, b5⟩ := s2 q hq
      rw [(g 13 (by decide)).2.1, (g 13 (by decide)).2.1, (g 13 (by decide)).2.1, (g 36 (by decide)).2.2, mAO_37, mAO_n46]
      refine ⟨b1, b2, fun w => ?_, fun j hj => by have := b4 j hj; omega, fun j hj => ?_⟩
      · by_cases e : q = i
        · subst e
          have := (hR.mdIff hi).mpr c3.1
          omega
        · rw [m5, if_neg e]
          exact b3 w
      · by_cases e : q = mOlst Y (i : Nat)
        · rw [if_pos e, List.mem_append, List.mem_singleton] at hj
          rcases hj with hj | hj
          · rw [← e] at hj
            have := b5 j hj
            omega
          · omega
        · rw [if_neg e] at hj
          have := b5 j hj
          omega
    · simp only [(g 14 (by decide)).1, (g 14 (by decide)).2.1, (g 41 (by decide)).2.2]
      exact s3
    · simp only [(g 15 (by decide)).1, (g 15 (by decide)).2.1, (g 12 (by decide)).1]
      exact s4
    · rw [(g 36 (by decide)).1, show sn (mAO Y (i : Nat) m al t) 37 = sn Y 37 from rfl, (g 41 (by decide)).1, (g 38 (by decide)).1, (g 39 (by decide)).1, (g 40 (by decide)).1, (g 13 (by decide)).1, (g 14 (by decide)).1, (g 15 (by decide)).1]
      exact s5
end ZBO1
