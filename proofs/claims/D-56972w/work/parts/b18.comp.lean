/-! THE SIMULATION: addComponent, addOperation -/
set_option maxRecDepth 100000
section ZBC1
variable {z : Nat → Nat} {k : Nat} {X Y : hS} {p c n o : Int}
theorem mTri_ceq {d : Nat} {x y w : Int} (h : d ≠ 46) : ceq Y (mTri Y x y w) d := by
  unfold mTri
  exact (((ceq.refl.snw h).ssA h).ssA h).ssA h
theorem mTri_n {x y w : Int} : sn (mTri Y x y w) 46 = sn Y 46 + 1 := rfl
theorem mTri_E {x y w : Int} {i : Nat} : sE (mTri Y x y w) 46 i = if i = sn Y 46 then [x, y, w] else sE Y 46 i := by
  unfold mTri
  rw [sE_ssA]
  by_cases h : i = sn Y 46
  · rw [if_pos ⟨rfl, h⟩, if_pos h]
  · rw [if_neg (fun q => h q.2), if_neg h, sE_ssA, if_neg (fun q => h q.2), sE_ssA, if_neg (fun q => h q.2), sE_w, if_neg (fun q => h q.2)]
/-- a made part's lists on both sides -/
theorem rR.madeAt (hR : rR z X Y) (hI : iAll z k X) (hS : mShape Y) {i : Nat} (hi : i < np X) (hm : fPc X (i : Nat) % 2 = 0) : pix X i < sn X 2 ∧ fCl X (i : Nat) = pix X i ∧ fOl X (i : Nat) = pix X i ∧ mClst Y (i : Nat) = i ∧ mOlst Y (i : Nat) = i ∧ sT X 2 0 (pix X i) = i ∧ rCs X Y i ∧ rOs X Y i := by
  have h13 : sn Y 13 = np X := hR.P.1
  obtain ⟨s1, s2, -⟩ := hS.2.1 i (by omega)
  rcases hI.pt.pc hi with ⟨q1, q2, q3⟩ | ⟨q1, q2, q3⟩
  · obtain ⟨l1, l2, l3, l4⟩ := hI.pt.2.2.2.1 (pix X i) q2
    obtain ⟨r1, r2⟩ := (hR.P.2 i hi).2.2.2.2.2.2.2 hm
    refine ⟨q2, ?_, ?_, ?_, ?_, q3, r1, r2⟩
    · unfold fCl
      rw [show sT X 2 7 (fPc X (i : Nat) / 2) = ((pix X i : Nat) : Int) from l1, Int.toNat_natCast]
    · unfold fOl
      rw [show sT X 2 8 (fPc X (i : Nat) / 2) = ((pix X i : Nat) : Int) from l2, Int.toNat_natCast]
    · unfold mClst
      rw [Int.toNat_natCast, s1, Int.toNat_natCast]
    · unfold mOlst
      rw [Int.toNat_natCast, s2, Int.toNat_natCast]
  · omega
theorem rR.mdIff (hR : rR z X Y) {i : Nat} (hi : i < np X) : sT Y 13 0 i = 1 ↔ fPc X (i : Nat) % 2 = 0 := by
  have h := (hR.P.2 i hi).1
  rw [h]
  constructor
  · intro e
    by_cases w : fPc X (i : Nat) % 2 = 0
    · exact w
    · rw [if_neg w] at e
      exact absurd e (by decide)
  · intro w
    rw [if_pos w]
theorem compCode (hR : rR z X Y) (hI : iAll z k X) (hS : mShape Y) : mCompCode Y p c n o = (fCompCode X p c n o : Nat) := by
  have h13 : sn Y 13 = np X := hR.P.1
  have eP : ∀ q : Int, mIsP Y q ↔ fIsP X q := fun q => by
    show (0 ≤ q ∧ q < sn Y 13) ↔ (0 ≤ q ∧ q < np X)
    rw [h13]
  unfold mCompCode fCompCode
  by_cases h1 : fIsP X p ∧ fIsP X c
  · rw [if_neg (show ¬ ¬ (mIsP Y p ∧ mIsP Y c) from fun q => q ⟨(eP p).mpr h1.1, (eP c).mpr h1.2⟩), if_neg (show ¬ ¬ (fIsP X p ∧ fIsP X c) from fun q => q h1)]
    obtain ⟨i, rfl, hi⟩ := idx h1.1
    have hi : i < np X := hi
    rw [Int.toNat_natCast]
    by_cases h2 : fPc X (i : Nat) % 2 = 0 ∧ c < (i : Nat)
    · rw [if_neg (show ¬ ¬ (sT Y 13 0 i = 1 ∧ c < (i : Nat)) from fun q => q ⟨(hR.mdIff hi).mpr h2.1, h2.2⟩), if_neg (show ¬ ¬ (fPc X (i : Nat) % 2 = 0 ∧ c < (i : Nat)) from fun q => q h2)]
      by_cases h3 : (1 ≤ n ∧ n ≤ 9) ∧ (-1 ≤ o ∧ o ≤ 2)
      · have h3' : ¬ ¬ ((1 ≤ n ∧ n ≤ 9) ∧ (-1 ≤ o ∧ o ≤ 2)) := fun q => q h3
        rw [if_neg h3', if_neg h3']
        obtain ⟨m1, m2, m3, m4, m5, m6, m7, m8⟩ := hR.madeAt hI hS hi h2.1
        have hl := congrArg List.length m7
        rw [List.length_map, List.length_map] at hl
        have h4 := (hI.pt.2.2.2.1 _ m1).2.2.1
        rw [m4, m2, hl]
        by_cases h5 : 4 ≤ (sE X 24 (pix X i)).length
        · rw [if_pos (by omega), if_pos h5]; rfl
        · rw [if_neg (by omega), if_neg h5]; rfl
      · rw [if_pos (show ¬ ((1 ≤ n ∧ n ≤ 9) ∧ (-1 ≤ o ∧ o ≤ 2)) from h3), if_pos (show ¬ ((1 ≤ n ∧ n ≤ 9) ∧ (-1 ≤ o ∧ o ≤ 2)) from h3)]; rfl
    · rw [if_pos (show ¬ (sT Y 13 0 i = 1 ∧ c < (i : Nat)) from fun q => h2 ⟨(hR.mdIff hi).mp q.1, q.2⟩), if_pos h2]; rfl
  · rw [if_pos (show ¬ (mIsP Y p ∧ mIsP Y c) from fun q => h1 ⟨(eP p).mp q.1, (eP c).mp q.2⟩), if_pos h1]; rfl
def mAC (Y : hS) (p c n o : Int) : hS := ssE (mTri (mt Y 0) c n o) 36 (mClst Y p) (sE Y 36 (mClst Y p) ++ [(sn Y 46 : Int)])
theorem fAC_ceq {d : Nat} (h4 : d ≠ 4) (h24 : d ≠ 24) : ceq X (fAddComponent X p c n o) d := by
  unfold fAddComponent kFComponent
  exact ((((ceq.refl.snw h4).set h4).set h4).set h4).ssE h24
theorem fAC_old {k i : Nat} (h : i ≠ sn X 4) : sT (fAddComponent X p c n o) 4 k i = sT X 4 k i := by
  unfold fAddComponent kFComponent
  rw [sT_ssE, sT_set, if_neg (by omega), sT_set, if_neg (by omega), sT_set, if_neg (by omega), sT_w, if_neg (by omega)]
theorem fAC_new {k : Nat} (hk : k < 3) : sT (fAddComponent X p c n o) 4 k (sn X 4) = match k with
  | 0 => c | 1 => n | _ => o := by
  unfold fAddComponent kFComponent
  simp only [sT_ssE, sT_set, sT_w]
  match k, hk with
  | 0, _ => rfl
  | 1, _ => rfl
  | 2, _ => rfl
theorem fAC_n4 : sn (fAddComponent X p c n o) 4 = sn X 4 + 1 := rfl
theorem fAC_24 {i : Nat} : sE (fAddComponent X p c n o) 24 i = if i = fCl X p then sE X 24 (fCl X p) ++ [(sn X 4 : Int)] else sE X 24 i := by
  unfold fAddComponent kFComponent
  rw [sE_ssE]
  by_cases h : i = fCl X p
  · rw [if_pos ⟨rfl, h⟩, if_pos h]
  · rw [if_neg (fun q => h q.2), if_neg h, sE_set, sE_set, sE_set, sE_w, if_neg (by omega)]
theorem mAC_ceq {d : Nat} (h11 : d ≠ 11) (h36 : d ≠ 36) (h46 : d ≠ 46) : ceq Y (mAC Y p c n o) d := by
  unfold mAC mTri
  exact (((((ceq.refl.set h11).snw h46).ssA h46).ssA h46).ssA h46).ssE h36
theorem mAC_11 {k i : Nat} (hk : k ≠ 0) : sT (mAC Y p c n o) 11 k i = sT Y 11 k i := by
  show sT (snw (mt Y 0) 46 (List.replicate 3 0)) 11 k i = _
  rw [sT_w, if_neg (by omega), sT_set, if_neg (by omega)]
theorem mAC_thrown : sT (mAC Y p c n o) 11 0 0 = 0 := by
  show sT (snw (mt Y 0) 46 (List.replicate 3 0)) 11 0 0 = _
  rw [sT_w, if_neg (by omega), sT_set, if_pos ⟨rfl, rfl, rfl⟩]
theorem mAC_36 {i : Nat} : sE (mAC Y p c n o) 36 i = if i = mClst Y p then sE Y 36 (mClst Y p) ++ [(sn Y 46 : Int)] else sE Y 36 i := by
  unfold mAC
  rw [sE_ssE]
  by_cases h : i = mClst Y p
  · rw [if_pos ⟨rfl, h⟩, if_pos h]
  · rw [if_neg (fun q => h q.2), if_neg h, (mTri_ceq (Y := mt Y 0) (by decide)).2.2]
    rfl
theorem mAC_46 {i : Nat} : sE (mAC Y p c n o) 46 i = if i = sn Y 46 then [c, n, o] else sE Y 46 i := by
  unfold mAC
  rw [sE_ssE, if_neg (by omega)]
  exact mTri_E (Y := mt Y 0)
theorem mAC_n46 : sn (mAC Y p c n o) 46 = sn Y 46 + 1 := rfl
theorem pairAC (hR : rR z X Y) (hI : iAll z k X) (hS : mShape Y) (hc : fCompCode X p c n o = 0) : rR z (fAddComponent X p c n o) (mAC Y p c n o) ∧ iAll z k (fAddComponent X p c n o) ∧ mShape (mAC Y p c n o) := by
  have g := fun (d : Nat) (h : d ≠ 11 ∧ d ≠ 36 ∧ d ≠ 46) => mAC_ceq (Y := Y) (p := p) (c := c) (n := n) (o := o) h.1 h.2.1 h.2.2
  have u := fun (d : Nat) (h : d ≠ 4 ∧ d ≠ 24) => fAC_ceq (X := X) (p := p) (c := c) (n := n) (o := o) h.1 h.2
  have h13 : sn Y 13 = np X := hR.P.1
  -- what the code 0 says
  have hcc : fIsP X p ∧ fIsP X c ∧ (fPc X p % 2 = 0 ∧ c < p) ∧ ((1 ≤ n ∧ n ≤ 9) ∧ (-1 ≤ o ∧ o ≤ 2)) ∧ ¬ 4 ≤ (sE X 24 (fCl X p)).length := by
    unfold fCompCode at hc
    by_cases h1 : fIsP X p ∧ fIsP X c
    · rw [if_neg (show ¬ ¬ (fIsP X p ∧ fIsP X c) from fun q => q h1)] at hc
      by_cases h2 : fPc X p % 2 = 0 ∧ c < p
      · rw [if_neg (show ¬ ¬ (fPc X p % 2 = 0 ∧ c < p) from fun q => q h2)] at hc
        by_cases h3 : (1 ≤ n ∧ n ≤ 9) ∧ (-1 ≤ o ∧ o ≤ 2)
        · rw [if_neg (show ¬ ¬ ((1 ≤ n ∧ n ≤ 9) ∧ (-1 ≤ o ∧ o ≤ 2)) from fun q => q h3)] at hc
          by_cases h4 : 4 ≤ (sE X 24 (fCl X p)).length
          · rw [if_pos h4] at hc
            cases hc
          · exact ⟨h1.1, h1.2, h2, h3, h4⟩
        · rw [if_pos h3] at hc
          cases hc
      · rw [if_pos h2] at hc
        cases hc
    · rw [if_pos h1] at hc
      cases hc
  obtain ⟨c1, c2, c3, c4, c5⟩ := hcc
  obtain ⟨i, rfl, hi⟩ := idx c1
  have hi : i < np X := hi
  obtain ⟨m1, m2, m3, m4, m5, m6, m7, m8⟩ := hR.madeAt hI hS hi c3.1
  have ne4 : ∀ q : Nat, q < np X → fPc X (q : Nat) % 2 = 0 → q ≠ i → pix X q ≠ pix X i := by
    intro q hq hm hne e
    apply hne
    have h1 := (hI.pt.1 q hq).2.2
    have h2 := (hI.pt.1 i hi).2.2
    have e1 : pcl X q = pcl X i := by
      have := c3.1
      unfold pcl
      omega
    rw [e1, e] at h1
    omega
  refine ⟨⟨?_, ?_, ?_, ?_, ?_, ?_, ?_⟩, ?_, ?_⟩
  · have hg := hR.G
    unfold rG at hg ⊢
    rw [mAC_11 (by decide), mAC_11 (by decide), (u 0 (by decide)).2.1, (u 0 (by decide)).2.1]
    exact hg
  · exact rM_congr (fun k i => (u 1 (by decide)).2.1 k i) (u 1 (by decide)).1 (fun k i => (g 12 (by decide)).2.1 k i) (g 12 (by decide)).1 hR.M
  · have enp : np (fAddComponent X (i : Nat) c n o) = np X := by
      show (sE _ 21 0).length = (sE X 21 0).length
      rw [(u 21 (by decide)).2.2]
    have epc : ∀ q : Int, fPc (fAddComponent X (i : Nat) c n o) q = fPc X q := fPc_congr ((u 21 (by decide)).2.2 0)
    refine ⟨by rw [(g 13 (by decide)).1, enp]; exact h13, fun q hq => ?_⟩
    rw [enp] at hq
    have h := hR.P.2 q hq
    have epcl : pcl (fAddComponent X (i : Nat) c n o) q = pcl X q := by unfold pcl; rw [epc]
    have epix : pix (fAddComponent X (i : Nat) c n o) q = pix X q := by unfold pix; rw [epc]
    have hcl : pcl X q ≠ 4 ∧ pcl X q ≠ 24 := by unfold pcl; omega
    rw [epc, epcl, epix]
    simp only [(u _ hcl).2.1, (g 13 (by decide)).2.1]
    refine ⟨h.1, h.2.1, h.2.2.1, h.2.2.2.1, h.2.2.2.2.1, h.2.2.2.2.2.1, h.2.2.2.2.2.2.1, fun hm => ?_⟩
    obtain ⟨w1, w2⟩ := h.2.2.2.2.2.2.2 hm
    obtain ⟨-, -, -, s4, s5⟩ := hS.2.1 q (by omega)
    have hq2 : pix X q < sn X 2 := by
      rcases hI.pt.pc hq with ⟨q1, q2, -⟩ | ⟨q1, q2, -⟩
      · exact q2
      · omega
    have a6 := hI.pt.2.2.2.2.2.1 (pix X q) hq2
    have old36 : ∀ L : List Int, (∀ j ∈ L, 0 ≤ j ∧ j < sn Y 46) → L.map (fun j => sE (mAC Y (i : Nat) c n o) 46 j.toNat) = L.map (fun j => sE Y 46 j.toNat) := fun L hL => List.map_congr_left (fun j hj => by
      have := hL j hj
      rw [mAC_46, if_neg (by omega)])
    have old24 : ∀ L : List Int, (∀ j ∈ L, 0 ≤ j ∧ j < sn X 4) → L.map (fun k => [sT (fAddComponent X (i : Nat) c n o) 4 0 k.toNat, sT (fAddComponent X (i : Nat) c n o) 4 1 k.toNat, sT (fAddComponent X (i : Nat) c n o) 4 2 k.toNat]) = L.map (fun k => [sT X 4 0 k.toNat, sT X 4 1 k.toNat, sT X 4 2 k.toNat]) := fun L hL => List.map_congr_left (fun j hj => by
      have := hL j hj
      rw [fAC_old (by omega), fAC_old (by omega), fAC_old (by omega)])
    have hL24 : ∀ j ∈ sE X 24 (pix X q), 0 ≤ j ∧ j < sn X 4 := fun j hj => by
      have := a6 j hj
      omega
    unfold rCs at w1 ⊢
    unfold rOs at w2 ⊢
    rw [epix]
    constructor
    · by_cases e : q = i
      · subst e
        rw [mAC_36, fAC_24, m4, m2, if_pos rfl, if_pos rfl, List.map_append, List.map_append, old36 _ s4, old24 _ hL24, w1]
        congr 1
        show [sE (mAC Y _ c n o) 46 ((sn Y 46 : Nat) : Int).toNat] = [[_, _, _]]
        rw [Int.toNat_natCast, Int.toNat_natCast, mAC_46, if_pos rfl, fAC_new (by decide), fAC_new (by decide), fAC_new (by decide)]
        rfl
      · rw [mAC_36, fAC_24, m4, m2, if_neg e, if_neg (ne4 q hq hm e), old36 _ s4, old24 _ hL24]
        exact w1
    · rw [(g 37 (by decide)).2.2, old36 _ s5, (u 25 (by decide)).2.2]
      simp only [(u 5 (by decide)).2.1]
      exact w2
  · exact hR.L.gr (pgr.same ((u 21 (by decide)).2.2 0)) (u 6 (by decide)) (u 7 (by decide)) (u 26 (by decide)) (g 14 (by decide)) (g 41 (by decide))
  · exact hR.O.gr (pgr.same ((u 21 (by decide)).2.2 0)) (u 7 (by decide)) (u 8 (by decide)) (u 26 (by decide)) (u 27 (by decide)) (g 15 (by decide)) (g 19 (by decide)) (g 38 (by decide)) (g 39 (by decide)) (g 40 (by decide))
  · exact rQ_congr (fun m _ => (u 45 (by decide)).2.2 m) (u 1 (by decide)).1 (u 8 (by decide)).1 (fun o _ => ⟨(g 15 (by decide)).2.1 5 o, (g 15 (by decide)).2.1 10 o⟩) hR.Q
  · exact rS_congr (fun x _ => ⟨(u 28 (by decide)).2.2 x, (u 9 (by decide)).2.1 0 x⟩) (fun d i hd => (g d (by omega)).2.2 i) (g 35 (by decide)).1 hR.S
  · obtain ⟨i1, i2, i3, i4, i5, i6, i7, i8, i9, i10, i11, i12, i13, i14⟩ := hI
    refine ⟨?_, ?_, i3.cg (u 0 (by decide)) (u 1 (by decide)) (u 45 (by decide)).1, i4.cg (u 6 (by decide)) (u 7 (by decide)) (u 21 (by decide)) (u 26 (by decide)), i5.cg (u 6 (by decide)).1 (u 7 (by decide)) (u 26 (by decide)) (u 27 (by decide)), i6.cg (u 6 (by decide)) (u 8 (by decide)) (u 21 (by decide)) (u 26 (by decide)).1 (u 27 (by decide)).1, i7.cg (u 6 (by decide)) (u 8 (by decide)), i8.cg (u 1 (by decide)) (u 2 (by decide)) (u 8 (by decide)) (u 25 (by decide)) (u 45 (by decide)), i9.cg (u 6 (by decide)) (u 7 (by decide)) (u 8 (by decide)) (u 26 (by decide)) (u 27 (by decide)), i10.cg (u 0 (by decide)) (u 6 (by decide)) (u 7 (by decide)) (u 8 (by decide)) (u 27 (by decide)), i11.cg (u 6 (by decide)) (u 7 (by decide)) (u 8 (by decide)) (u 26 (by decide)), i12.cg (u 8 (by decide)) (u 26 (by decide)) (u 27 (by decide)), i13.cg (u 0 (by decide)) (u 6 (by decide)).1 (u 8 (by decide)) (u 28 (by decide)), i14.cg (u 9 (by decide)) (u 28 (by decide)) (u 48 (by decide))⟩
    · unfold fFix at i1 ⊢
      have f0 := u 0 (by decide)
      rw [f0.1, f0.2.1, f0.2.1, f0.2.1, f0.2.1, f0.2.1, (u 20 (by decide)).2.2, (u 21 (by decide)).2.2, (u 22 (by decide)).2.2, (u 23 (by decide)).2.2, (u 1 (by decide)).1, (u 6 (by decide)).1, (u 8 (by decide)).1]
      exact i1
    · obtain ⟨a1, a2, a3, a4, a5, a6, a7, a8, a9⟩ := i2
      have enp : np (fAddComponent X (i : Nat) c n o) = np X := by
        show (sE _ 21 0).length = (sE X 21 0).length
        rw [(u 21 (by decide)).2.2]
      have epc : ∀ q : Int, fPc (fAddComponent X (i : Nat) c n o) q = fPc X q := fPc_congr ((u 21 (by decide)).2.2 0)
      have n4 : sn (fAddComponent X (i : Nat) c n o) 4 = sn X 4 + 1 := rfl
      refine ⟨fun q hq => ?_, by rw [show sn (fAddComponent X (i : Nat) c n o) 24 = sn X 24 from rfl, (u 2 (by decide)).1]; exact a2, by rw [(u 25 (by decide)).1, (u 2 (by decide)).1]; exact a3, fun j hj => ?_, fun d j hd hj => ?_, fun j hj => ?_, fun j hj => ?_, fun j hj => ?_, ?_⟩
      · rw [enp] at hq
        have hcl : pcl X q ≠ 4 ∧ pcl X q ≠ 24 := by unfold pcl; omega
        have epcl : pcl (fAddComponent X (i : Nat) c n o) q = pcl X q := by unfold pcl; rw [epc]
        have epix : pix (fAddComponent X (i : Nat) c n o) q = pix X q := by unfold pix; rw [epc]
        rw [epcl, epix, (u 21 (by decide)).2.2, (u _ hcl).1, (u _ hcl).2.1]
        exact a1 q hq
      · rw [(u 2 (by decide)).1] at hj
        obtain ⟨b1, b2, b3, b4⟩ := a4 j hj
        rw [(u 2 (by decide)).2.1, (u 2 (by decide)).2.1, (u 25 (by decide)).2.2, fAC_24]
        refine ⟨b1, b2, ?_, b4⟩
        by_cases e : j = fCl X (i : Nat)
        · rw [if_pos e, List.length_append]
          show _ + 1 ≤ 4
          omega
        · rw [if_neg e]
          exact b3
      · have hd4 : d ≠ 4 ∧ d ≠ 24 := by omega
        rw [(u d hd4).1] at hj
        simp only [(u d hd4).2.1]
        exact a5 d j hd hj
      · rw [(u 2 (by decide)).1] at hj
        rw [fAC_24, (u 2 (by decide)).2.1, n4]
        intro q hq
        by_cases e : j = fCl X (i : Nat)
        · rw [if_pos e, List.mem_append, List.mem_singleton] at hq
          rcases hq with hq | hq
          · rw [← e] at hq
            have w := a6 j hj q hq
            rw [fAC_old (by omega)]
            exact ⟨w.1, by omega, w.2.2⟩
          · rw [hq, Int.toNat_natCast, fAC_new (by decide), e, m2, m6]
            exact ⟨Int.natCast_nonneg _, by omega, c3.2⟩
        · rw [if_neg e] at hq
          have w := a6 j hj q hq
          rw [fAC_old (by omega)]
          exact ⟨w.1, by omega, w.2.2⟩
      · rw [n4] at hj
        rw [enp]
        by_cases e : j = sn X 4
        · subst e
          rw [fAC_new (by decide), fAC_new (by decide), fAC_new (by decide)]
          exact ⟨c2, c4.1, c4.2⟩
        · rw [fAC_old e, fAC_old e, fAC_old e]
          exact a7 j (by omega)
      · rw [(u 2 (by decide)).1] at hj
        rw [(u 25 (by decide)).2.2, (u 5 (by decide)).1]
        exact a8 j hj
      · unfold fOps at a9 ⊢
        simp only [(u 5 (by decide)).1, (u 5 (by decide)).2.1, (u 1 (by decide)).1]
        exact a9
  · obtain ⟨s1, s2, s3, s4, s5⟩ := hS
    refine ⟨?_, fun q hq => ?_, ?_, ?_, ?_⟩
    · unfold mFix at s1 ⊢
      rw [mAC_11 (by decide), mAC_11 (by decide), mAC_11 (by decide), mAC_11 (by decide), mAC_11 (by decide), mAC_11 (by decide), (g 30 (by decide)).2.2, (g 31 (by decide)).2.2, (g 32 (by decide)).2.2, (g 33 (by decide)).2.2, (g 12 (by decide)).1, (g 13 (by decide)).1, (g 14 (by decide)).1, (g 15 (by decide)).1]
      exact s1
    · rw [(g 13 (by decide)).1] at hq
      obtain ⟨b1, b2, b3, b4, b5⟩ := s2 q hq
      rw [(g 13 (by decide)).2.1, (g 13 (by decide)).2.1, (g 13 (by decide)).2.1, (g 37 (by decide)).2.2, mAC_36, mAC_n46]
      refine ⟨b1, b2, fun w => ?_, fun j hj => ?_, fun j hj => by have := b5 j hj; omega⟩
      · by_cases e : q = i
        · subst e
          have := (hR.mdIff hi).mpr c3.1
          omega
        · rw [m4, if_neg e]
          exact b3 w
      · by_cases e : q = mClst Y (i : Nat)
        · rw [if_pos e, List.mem_append, List.mem_singleton] at hj
          rcases hj with hj | hj
          · rw [← e] at hj
            have := b4 j hj
            omega
          · omega
        · rw [if_neg e] at hj
          have := b4 j hj
          omega
    · simp only [(g 14 (by decide)).1, (g 14 (by decide)).2.1, (g 41 (by decide)).2.2]
      exact s3
    · simp only [(g 15 (by decide)).1, (g 15 (by decide)).2.1, (g 12 (by decide)).1]
      exact s4
    · rw [show sn (mAC Y (i : Nat) c n o) 36 = sn Y 36 from rfl, (g 37 (by decide)).1, (g 41 (by decide)).1, (g 38 (by decide)).1, (g 39 (by decide)).1, (g 40 (by decide)).1, (g 13 (by decide)).1, (g 14 (by decide)).1, (g 15 (by decide)).1]
      exact s5
end ZBC1
