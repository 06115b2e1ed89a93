/-! THE SIMULATION: an order is finished, on both sides -/
set_option maxRecDepth 100000
section ZBY3
variable {z : Nat → Nat} {k o : Nat} {X Y : hS}
def mFB (Y : hS) (o : Nat) : hS := ssE (mFinB Y o) 41 (sn Y 41) (sE Y 38 o)
theorem mFin_def : mFin Y o = if 0 < sT Y 15 8 o then mFB Y o else mFinA Y o := rfl
theorem mA_c {d : Nat} (h : d ≠ 15) : ceq Y (mFinA Y o) d := by
  unfold mFinA
  exact (ceq.refl.set h).set h
theorem mA_15 {j i : Nat} (h : ¬ ((j = 5 ∨ j = 13) ∧ i = o)) : sT (mFinA Y o) 15 j i = sT Y 15 j i := by
  unfold mFinA
  rw [sT_set, if_neg (by omega), sT_set, if_neg (by omega)]
theorem mA_155 : sT (mFinA Y o) 15 5 o = 102 := by
  unfold mFinA
  rw [sT_set, if_neg (by omega), sT_set, if_pos ⟨rfl, rfl, rfl⟩]
theorem mA_1513 : sT (mFinA Y o) 15 13 o = sT Y 11 8 0 := by
  unfold mFinA
  rw [sT_set, if_pos ⟨rfl, rfl, rfl⟩]
theorem mFb_c {d : Nat} (h : d ≠ 14 ∧ d ≠ 15 ∧ d ≠ 32 ∧ d ≠ 41) : ceq Y (mFB Y o) d := by
  unfold mFB mFinB mLotS kMLot
  exact ((((((((((mA_c h.2.1).snw h.1).snw h.2.2.2).set h.1).set h.1).set h.1).set h.1).set h.1).ssE h.2.2.1).set h.2.1).ssE h.2.2.2
theorem mFb_n14 : sn (mFB Y o) 14 = sn Y 14 + 1 := rfl
theorem mFb_n15 : sn (mFB Y o) 15 = sn Y 15 := rfl
theorem mFb_n41 : sn (mFB Y o) 41 = sn Y 41 + 1 := rfl
theorem mFb_32 : sE (mFB Y o) 32 0 = sE Y 32 0 ++ [(sn Y 14 : Int)] := rfl
theorem mFb_41 {i : Nat} : sE (mFB Y o) 41 i = if i = sn Y 41 then sE Y 38 o else sE Y 41 i := by
  have e : sn (snw (mFinA Y o) 14 []) 41 = sn Y 41 := rfl
  have e2 : sE (mFinA Y o) 41 i = sE Y 41 i := rfl
  unfold mFB mFinB mLotS kMLot
  simp only [sE_ssE, sE_set, sE_w, e, e2]
  by_cases h : i = sn Y 41 <;> simp [h]
theorem mFb_14 {j i : Nat} (h : i ≠ sn Y 14) : sT (mFB Y o) 14 j i = sT Y 14 j i := by
  have e : sn (mFinA Y o) 14 = sn Y 14 := rfl
  have e2 : sT (mFinA Y o) 14 j i = sT Y 14 j i := rfl
  unfold mFB mFinB mLotS kMLot
  simp only [sT_ssE, sT_set, sT_w, e, e2]
  simp [h]
theorem mFb_14n {j : Nat} (hj : j < 7) : sT (mFB Y o) 14 j (sn Y 14) = match j with
  | 0 => (sn Y 14 : Nat) | 1 => sT Y 15 1 o | 2 => sT Y 15 8 o | 4 => sT Y 15 11 o | 6 => (sn Y 41 : Nat) | _ => 0 := by
  have e : sn (mFinA Y o) 14 = sn Y 14 := rfl
  unfold mFB mFinB mLotS kMLot
  simp only [sT_ssE, sT_set, sT_w, e]
  match j, hj with
  | 0, _ => rfl
  | 1, _ => rfl
  | 2, _ => rfl
  | 3, _ => rfl
  | 4, _ => rfl
  | 5, _ => rfl
  | 6, _ => rfl
theorem mFb_15 {j i : Nat} (h : ¬ ((j = 5 ∨ j = 12 ∨ j = 13) ∧ i = o)) : sT (mFB Y o) 15 j i = sT Y 15 j i := by
  unfold mFB mFinB mLotS kMLot
  rw [sT_ssE, sT_set, if_neg (by omega), sT_ssE, sT_set, if_neg (by omega), sT_set, if_neg (by omega), sT_set, if_neg (by omega), sT_set, if_neg (by omega), sT_set, if_neg (by omega), sT_w, if_neg (by omega), sT_w, if_neg (by omega)]
  exact mA_15 (by omega)
theorem mFb_155 : sT (mFB Y o) 15 5 o = 102 := by
  unfold mFB mFinB mLotS kMLot
  rw [sT_ssE, sT_set, if_neg (by omega), sT_ssE, sT_set, if_neg (by omega), sT_set, if_neg (by omega), sT_set, if_neg (by omega), sT_set, if_neg (by omega), sT_set, if_neg (by omega), sT_w, if_neg (by omega), sT_w, if_neg (by omega)]
  exact mA_155
theorem mFb_1513 : sT (mFB Y o) 15 13 o = sT Y 11 8 0 := by
  unfold mFB mFinB mLotS kMLot
  rw [sT_ssE, sT_set, if_neg (by omega), sT_ssE, sT_set, if_neg (by omega), sT_set, if_neg (by omega), sT_set, if_neg (by omega), sT_set, if_neg (by omega), sT_set, if_neg (by omega), sT_w, if_neg (by omega), sT_w, if_neg (by omega)]
  exact mA_1513
theorem mFb_1512 : sT (mFB Y o) 15 12 o = (sn Y 14 : Nat) := by
  unfold mFB mFinB
  rw [sT_ssE, sT_set, if_pos ⟨rfl, rfl, rfl⟩]
/-- what an order has taken, lot by lot, on both sides -/
theorem rR.t38 (hR : rR z X Y) (ho : o < sn X 8) : sE Y 38 o = (sE X 26 (fOL X o)).map (fun t => sT X 7 0 t.toNat) := by
  obtain ⟨h1, h2⟩ := (hR.O.2 o ho).2.2.1
  have e := congrArg (List.map Prod.fst) h1
  have e1 : (mTl Y o).map Prod.fst = sE Y 38 o := by
    unfold mTl mZs
    rw [List.map_map]
    exact List.map_fst_zip (by omega)
  have e2 : (fTl X o).map Prod.fst = (sE X 26 (fOL X o)).map (fun t => sT X 7 0 t.toNat) := by
    unfold fTl
    rw [List.map_map]; rfl
  rw [← e1, e, e2]
theorem pairFinB (hz : zInj z) (hR : rR z X Y) (hI : iAll z k (fFiB z X o)) (hT : iTk X) (hOr : fOL X o < sn X 26) (hS : mShape Y) (hB : mBox Y) (ho : o < sn X 8) (hst : ∃ s : Nat, s < 4 ∧ sT X 8 7 o = (z s : Nat)) (hmd : (sT X 8 1 o).toNat % 2 = 0) (hLo : ∀ l : Nat, l < sn X 6 → 0 ≤ sT X 6 3 l ∧ sT X 6 3 l < sn X 26) (hq : ∀ m : Nat, m < sn X 1 → (o : Int) ∉ sE X 45 m) :
    rR z (fFiB z X o) (mFB Y o) ∧ mShape (mFB Y o) ∧ mBox (mFB Y o) := by
  have u := fun (c : Nat) (h : c ≠ 6 ∧ c ≠ 8 ∧ c ≠ 22) => fB_c (z := z) (X := X) (o := o) h
  have g := fun (d : Nat) (h : d ≠ 14 ∧ d ≠ 15 ∧ d ≠ 32 ∧ d ≠ 41) => mFb_c (Y := Y) (o := o) h
  have u7 := u 7 (by decide)
  have u26 := u 26 (by decide)
  have old := fun (j i : Nat) (h : i ≠ sn X 6) => fB_6 (z := z) (o := o) (j := j) h
  have new := fun (j : Nat) (h : j < 8) => fB_6n (z := z) (X := X) (o := o) h
  have v8 : ∀ q i : Nat, ¬ ((q = 7 ∨ q = 11 ∨ q = 13) ∧ i = o) → sT (fFiB z X o) 8 q i = sT X 8 q i := fun q i h => fB_8 h
  have mold := fun (j i : Nat) (h : i ≠ sn Y 14) => mFb_14 (o := o) (j := j) h
  have mnew := fun (j : Nat) (h : j < 7) => mFb_14n (Y := Y) (o := o) h
  have m15 : ∀ q i : Nat, ¬ ((q = 5 ∨ q = 12 ∨ q = 13) ∧ i = o) → sT (mFB Y o) 15 q i = sT Y 15 q i := fun q i h => mFb_15 h
  have h14 : sn Y 14 = sn X 6 := hR.L.1
  have h41 : sn Y 41 = sn Y 14 := hS.2.2.2.2.2.2.1
  have enp : np (fFiB z X o) = np X := by
    show (sE _ 21 0).length = (sE X 21 0).length
    rw [(u 21 (by decide)).2.2]
  have epc : ∀ x : Int, fPc (fFiB z X o) x = fPc X x := fPc_congr ((u 21 (by decide)).2.2 0)
  have eOL : ∀ q : Nat, fOL (fFiB z X o) q = fOL X q := fun q => congrArg Int.toNat (v8 5 q (by omega))
  have eDL : ∀ q : Nat, fDelL (fFiB z X o) q = fDelL X q := fun q => congrArg Int.toNat (v8 6 q (by omega))
  obtain ⟨⟨p0, hp0, hp1, hp2⟩, oa2⟩ := (hR.O.2 o ho).1
  obtain ⟨⟨s, s4, hs7⟩, ob⟩ := (hR.O.2 o ho).2.1
  obtain ⟨s1, hs1, hs2⟩ := hst
  have hy : ((sT X 8 1 o).toNat : Int) = sT X 8 1 o := by rw [hp2]; rfl
  have e38 := hR.t38 ho
  have h100 : sn X 6 + 1 ≤ 100 := hI.1.2.2.2.2.2.2.2.2.2.2.1
  have hs : s < 4 := by
    have := hz s s1 (by omega) (by omega) (by have := hs7.1; omega)
    omega
  refine ⟨⟨?_, ?_, ?_, ?_, ?_, ?_, ?_⟩, ?_, ?_⟩
  · have hg := hR.G
    unfold rG at hg ⊢
    rw [(g 11 (by decide)).2.1, (g 11 (by decide)).2.1, (u 0 (by decide)).2.1, (u 0 (by decide)).2.1]
    exact hg
  · exact rM_congr (fun k i => (u 1 (by decide)).2.1 k i) (u 1 (by decide)).1 (fun k i => (g 12 (by decide)).2.1 k i) (g 12 (by decide)).1 hR.M
  · exact rP_congr (fun c k i hc => (u c (by omega)).2.1 k i) (fun c i hc => (u c (by omega)).2.2 i) (fun k i => (g 13 (by decide)).2.1 k i) (fun c i hc => (g c (by omega)).2.2 i) (g 13 (by decide)).1 hR.P
  · refine ⟨by rw [mFb_n14, fB_n6, h14], fun l hl => ?_⟩
    rw [fB_n6] at hl
    by_cases e : l = sn X 6
    · have N : ∀ i : Nat, sT (fFiB z X o) 6 i l = sT (fFiB z X o) 6 i (sn X 6) := fun i => by rw [e]
      have M : ∀ i : Nat, sT (mFB Y o) 14 i l = sT (mFB Y o) 14 i (sn Y 14) := fun i => by rw [e, h14]
      refine ⟨⟨p0, by rw [enp]; exact hp0, ((M 1).trans (mnew 1 (by decide))).trans hp1, ((N 1).trans (new 1 (by decide))).trans (show (((sT X 8 1 o).toNat : Nat) : Int) = _ by rw [hy, hp2, epc])⟩, ?_, ?_, ?_, ?_, ?_⟩
      · exact (((M 2).trans (mnew 2 (by decide))).trans ob.1).trans ((N 4).trans (new 4 (by decide))).symm
      · exact ((M 3).trans (mnew 3 (by decide))).trans ((N 5).trans (new 5 (by decide))).symm
      · exact (((M 4).trans (mnew 4 (by decide))).trans ob.2.2.1).trans ((N 6).trans (new 6 (by decide))).symm
      · exact ((M 5).trans (mnew 5 (by decide))).trans ((N 7).trans (new 7 (by decide))).symm
      · have n3 : sT (fFiB z X o) 6 3 l = (fOL X o : Nat) := (N 3).trans (new 3 (by decide))
        have n6 : sT (mFB Y o) 14 6 l = (sn Y 41 : Nat) := (M 6).trans (mnew 6 (by decide))
        unfold mch fch
        rw [n3, n6, Int.toNat_natCast, Int.toNat_natCast, u26.2.2, mFb_41, if_pos rfl, e38, List.map_map]
        exact List.map_congr_left (fun t _ => by show (sT X 7 0 t.toNat).toNat = _; rw [u7.2.1])
    · have hl : l < sn X 6 := by omega
      obtain ⟨⟨p', g1, g2, g3⟩, g4, g5, g6, g7, g8⟩ := hR.L.2 l hl
      have hs := (hS.2.2.1 l (by omega)).2.1
      have ech : fch (fFiB z X o) l = fch X l := fch_congr (old 3 l (by omega)) (u26.2.2 _) (fun t _ => u7.2.1 0 _)
      rw [mold 1 l (by omega), mold 2 l (by omega), mold 3 l (by omega), mold 4 l (by omega), mold 5 l (by omega), old 1 l e, old 4 l e, old 5 l e, old 6 l e, old 7 l e, ech]
      refine ⟨⟨p', by rw [enp]; exact g1, g2, by rw [epc]; exact g3⟩, g4, g5, g6, g7, ?_⟩
      rw [← g8]
      unfold mch
      rw [mold 6 l (by omega), mFb_41, if_neg (by omega)]
  · refine ⟨by rw [mFb_n15, fB_n8]; exact hR.O.1, fun j hj => ?_⟩
    rw [fB_n8] at hj
    obtain ⟨g1, g2, g3, g4⟩ := hR.O.2 j hj
    refine ⟨rOa_congr (fun i _ => v8 i j (by omega)) ((u 21 (by decide)).2.2 0) (fun i _ => m15 i j (by omega)) g1, ?_, ⟨?_, ?_⟩, ?_⟩
    · by_cases e : j = o
      · subst e
        refine ⟨⟨4, by decide, fB_87', mFb_155, ?_, ?_⟩, ?_, ?_, ?_, ?_⟩
        · rw [mFb_1513, v8 1 j (by omega), if_pos ⟨hmd, by decide⟩, fB_811]; exact hR.G.2
        · rw [m15 14 j (by omega), if_neg (by decide), hs7.2.2.2, if_neg (by omega)]
        · rw [m15 8 j (by omega), v8 8 j (by omega)]; exact ob.1
        · rw [m15 9 j (by omega), v8 9 j (by omega)]; exact ob.2.1
        · rw [m15 11 j (by omega), v8 10 j (by omega)]; exact ob.2.2.1
        · rw [mFb_1512, fB_813, h14]
      · exact rOb_congr (fun i _ => v8 i j (by omega)) (fun i _ => m15 i j (by omega)) g2
    · rw [fTl_congr (eOL j) (u26.2.2 _) (fun t _ => ⟨u7.2.1 0 _, u7.2.1 1 _⟩), mTl_congr ((g 38 (by decide)).2.2 j) ((g 39 (by decide)).2.2 j) (fun x _ => (g 19 (by decide)).2.1 0 _)]
      exact g3.1
    · rw [(g 38 (by decide)).2.2, (g 39 (by decide)).2.2]; exact g3.2
    · exact rD_congr (eDL j) ((u 27 (by decide)).2.2 _) (fun t _ => ⟨u7.2.1 0 _, u7.2.1 2 _⟩) ((g 40 (by decide)).2.2 j) (m15 15 j (by omega)) g4
  · intro m hm
    rw [(u 1 (by decide)).1] at hm
    obtain ⟨a1, a2⟩ := hR.Q m hm
    rw [(u 45 (by decide)).2.2, fB_n8]
    refine ⟨a1, fun x => (a2 x).trans ?_⟩
    by_cases ex : 0 ≤ x ∧ x.toNat = o
    · have hx : x = (o : Int) := by omega
      have hn : ¬ (x ∈ sE X 45 m) := by rw [hx]; exact hq m hm
      have hn2 : ¬ (0 ≤ x ∧ x < sn X 8 ∧ sT Y 15 5 x.toNat = 119 ∧ sT Y 15 10 x.toNat = m) := fun w => hn ((a2 x).mpr w)
      constructor
      · intro w; exact absurd w hn2
      · rintro ⟨c1, c2, c3, c4⟩
        rw [ex.2, mFb_155] at c3
        omega
    · constructor
      · rintro ⟨c1, c2, c3, c4⟩
        rw [m15 5 _ (by omega), m15 10 _ (by omega)]
        exact ⟨c1, c2, c3, c4⟩
      · rintro ⟨c1, c2, c3, c4⟩
        rw [m15 5 _ (by omega)] at c3
        rw [m15 10 _ (by omega)] at c4
        exact ⟨c1, c2, c3, c4⟩
  · exact rS_congr (fun x _ => ⟨(u 28 (by decide)).2.2 x, (u 9 (by decide)).2.1 0 x⟩) (fun c i hc => (g c (by omega)).2.2 i) (g 35 (by decide)).1 hR.S
  · obtain ⟨y1, y2, y3, y4, t1, t2, t3, t4, t5, t6⟩ := hS
    refine ⟨?_, ?_, ?_, fun j hj => ?_, ?_⟩
    · unfold mFix at y1 ⊢
      obtain ⟨x1, x2, x3, x4, x5, x6, x7, x8, x9, x10, x11, x12, x13, x14, x15⟩ := y1
      have g11 := g 11 (by decide)
      rw [g11.1, g11.2.1, g11.2.1, g11.2.1, g11.2.1, g11.2.1, g11.2.1, (g 30 (by decide)).2.2, (g 31 (by decide)).2.2, (g 33 (by decide)).2.2, mFb_32, (g 12 (by decide)).1, (g 13 (by decide)).1, mFb_n15, mFb_n14, x10, idl_succ]
      exact ⟨x1, x2, x3, x4, x5, x6, x7, x8, x9, rfl, x11, x12, x13, by omega, x15⟩
    · simp only [(g 13 (by decide)).1, (g 13 (by decide)).2.1, (g 36 (by decide)).2.2, (g 37 (by decide)).2.2, (g 46 (by decide)).1]
      exact y2
    · intro l hl
      rw [mFb_n14] at hl
      by_cases e : l = sn Y 14
      · have M : ∀ i : Nat, sT (mFB Y o) 14 i l = sT (mFB Y o) 14 i (sn Y 14) := fun i => by rw [e]
        refine ⟨((M 0).trans (mnew 0 (by decide))).trans (show ((sn Y 14 : Nat) : Int) = l by rw [e]), ((M 6).trans (mnew 6 (by decide))).trans (show ((sn Y 41 : Nat) : Int) = l by rw [e, h41]), ?_⟩
        rw [mFb_41, if_pos (by omega), e38]
        intro t ht
        obtain ⟨y, hy', rfl⟩ := List.mem_map.mp ht
        have := hT.1 (fOL X o) hOr y hy'
        exact (hT.2.2 y.toNat (by omega)).1.1
      · rw [mold 0 l e, mold 6 l e, mFb_41, if_neg (by omega)]
        exact y3 l (by omega)
    · rw [mFb_n15] at hj
      obtain ⟨w1, w2, w3, w4, w5, w6⟩ := y4 j hj
      rw [m15 0 j (by omega), m15 6 j (by omega), m15 7 j (by omega), m15 16 j (by omega), m15 10 j (by omega), (g 12 (by decide)).1]
      refine ⟨w1, w2, w3, w4, w5, fun w => ?_⟩
      by_cases e : j = o
      · rw [e, mFb_155] at w
        omega
      · rw [m15 5 j (by omega)] at w
        exact w6 w
    · rw [(g 36 (by decide)).1, (g 37 (by decide)).1, (g 38 (by decide)).1, (g 39 (by decide)).1, (g 40 (by decide)).1, (g 13 (by decide)).1, mFb_n15, mFb_n14, mFb_n41]
      exact ⟨t1, t2, by omega, t4, t5, t6⟩
  · exact hB.cg mFb_n15 (g 19 (by decide)) (g 39 (by decide))
theorem pairFinA (hz : zInj z) (hR : rR z X Y) (hS : mShape Y) (hB : mBox Y) (ho : o < sn X 8) (hst : ∃ s : Nat, s < 4 ∧ sT X 8 7 o = (z s : Nat)) (hmd : (sT X 8 1 o).toNat % 2 = 0) (h13 : sT X 8 13 o = -1) (hq : ∀ m : Nat, m < sn X 1 → (o : Int) ∉ sE X 45 m) :
    rR z (fFiA z X o) (mFinA Y o) ∧ mShape (mFinA Y o) ∧ mBox (mFinA Y o) := by
  have u := fun (c : Nat) (h : c ≠ 0 ∧ c ≠ 8) => fA_c (z := z) (X := X) (o := o) h
  have g := fun (d : Nat) (h : d ≠ 15) => mA_c (Y := Y) (o := o) h
  have u7 := u 7 (by decide)
  have u26 := u 26 (by decide)
  have v8 : ∀ q i : Nat, ¬ ((q = 7 ∨ q = 11) ∧ i = o) → sT (fFiA z X o) 8 q i = sT X 8 q i := fun q i h => fA_8 h
  have m15 : ∀ q i : Nat, ¬ ((q = 5 ∨ q = 13) ∧ i = o) → sT (mFinA Y o) 15 q i = sT Y 15 q i := fun q i h => mA_15 h
  have eOL : ∀ q : Nat, fOL (fFiA z X o) q = fOL X q := fun q => congrArg Int.toNat (v8 5 q (by omega))
  have eDL : ∀ q : Nat, fDelL (fFiA z X o) q = fDelL X q := fun q => congrArg Int.toNat (v8 6 q (by omega))
  obtain ⟨⟨s, s4, hs7⟩, ob⟩ := (hR.O.2 o ho).2.1
  obtain ⟨s1, hs1, hs2⟩ := hst
  have hs : s < 4 := by
    have := hz s s1 (by omega) (by omega) (by have := hs7.1; omega)
    omega
  have f0 := fun (j : Nat) (h : j ≠ 9) => fA_0 (z := z) (X := X) (o := o) (j := j) (i := 0) h
  refine ⟨⟨?_, ?_, ?_, ?_, ?_, ?_, ?_⟩, ?_, ?_⟩
  · have hg := hR.G
    unfold rG at hg ⊢
    rw [(g 11 (by decide)).2.1, (g 11 (by decide)).2.1, f0 5 (by decide), f0 6 (by decide)]
    exact hg
  · exact rM_congr (fun k i => (u 1 (by decide)).2.1 k i) (u 1 (by decide)).1 (fun k i => (g 12 (by decide)).2.1 k i) (g 12 (by decide)).1 hR.M
  · exact rP_congr (fun c k i hc => (u c (by omega)).2.1 k i) (fun c i hc => (u c (by omega)).2.2 i) (fun k i => (g 13 (by decide)).2.1 k i) (fun c i hc => (g c (by omega)).2.2 i) (g 13 (by decide)).1 hR.P
  · exact hR.L.gr (pgr.same ((u 21 (by decide)).2.2 0)) (u 6 (by decide)) u7 u26 (g 14 (by decide)) (g 41 (by decide))
  · refine ⟨hR.O.1, fun j hj => ?_⟩
    have hj : j < sn X 8 := hj
    obtain ⟨g1, g2, g3, g4⟩ := hR.O.2 j hj
    refine ⟨rOa_congr (fun i _ => v8 i j (by omega)) ((u 21 (by decide)).2.2 0) (fun i _ => m15 i j (by omega)) g1, ?_, ⟨?_, ?_⟩, ?_⟩
    · by_cases e : j = o
      · subst e
        refine ⟨⟨4, by decide, fA_87, mA_155, ?_, ?_⟩, ?_, ?_, ?_, ?_⟩
        · rw [mA_1513, v8 1 j (by omega), if_pos ⟨hmd, by decide⟩, fA_811]; exact hR.G.2
        · rw [m15 14 j (by omega), if_neg (by decide), hs7.2.2.2, if_neg (by omega)]
        · rw [m15 8 j (by omega), v8 8 j (by omega)]; exact ob.1
        · rw [m15 9 j (by omega), v8 9 j (by omega)]; exact ob.2.1
        · rw [m15 11 j (by omega), v8 10 j (by omega)]; exact ob.2.2.1
        · rw [m15 12 j (by omega), v8 13 j (by omega)]; exact ob.2.2.2
      · exact rOb_congr (fun i _ => v8 i j (by omega)) (fun i _ => m15 i j (by omega)) g2
    · rw [fTl_congr (eOL j) (u26.2.2 _) (fun t _ => ⟨u7.2.1 0 _, u7.2.1 1 _⟩), mTl_congr ((g 38 (by decide)).2.2 j) ((g 39 (by decide)).2.2 j) (fun x _ => (g 19 (by decide)).2.1 0 _)]
      exact g3.1
    · rw [(g 38 (by decide)).2.2, (g 39 (by decide)).2.2]; exact g3.2
    · exact rD_congr (eDL j) ((u 27 (by decide)).2.2 _) (fun t _ => ⟨u7.2.1 0 _, u7.2.1 2 _⟩) ((g 40 (by decide)).2.2 j) (m15 15 j (by omega)) g4
  · intro m hm
    rw [(u 1 (by decide)).1] at hm
    obtain ⟨a1, a2⟩ := hR.Q m hm
    rw [(u 45 (by decide)).2.2, fA_n]
    refine ⟨a1, fun x => (a2 x).trans ?_⟩
    by_cases ex : 0 ≤ x ∧ x.toNat = o
    · have hx : x = (o : Int) := by omega
      have hn : ¬ (x ∈ sE X 45 m) := by rw [hx]; exact hq m hm
      have hn2 : ¬ (0 ≤ x ∧ x < sn X 8 ∧ sT Y 15 5 x.toNat = 119 ∧ sT Y 15 10 x.toNat = m) := fun w => hn ((a2 x).mpr w)
      constructor
      · intro w; exact absurd w hn2
      · rintro ⟨c1, c2, c3, c4⟩
        rw [ex.2, mA_155] at c3
        omega
    · constructor
      · rintro ⟨c1, c2, c3, c4⟩
        rw [m15 5 _ (by omega), m15 10 _ (by omega)]
        exact ⟨c1, c2, c3, c4⟩
      · rintro ⟨c1, c2, c3, c4⟩
        rw [m15 5 _ (by omega)] at c3
        rw [m15 10 _ (by omega)] at c4
        exact ⟨c1, c2, c3, c4⟩
  · exact rS_congr (fun x _ => ⟨(u 28 (by decide)).2.2 x, (u 9 (by decide)).2.1 0 x⟩) (fun c i hc => (g c (by omega)).2.2 i) (g 35 (by decide)).1 hR.S
  · obtain ⟨y1, y2, y3, y4, y5⟩ := hS
    refine ⟨y1, y2, y3, fun j hj => ?_, y5⟩
    obtain ⟨w1, w2, w3, w4, w5, w6⟩ := y4 j hj
    rw [m15 0 j (by omega), m15 6 j (by omega), m15 7 j (by omega), m15 16 j (by omega), m15 10 j (by omega)]
    refine ⟨w1, w2, w3, w4, w5, fun w => ?_⟩
    by_cases e : j = o
    · rw [e, mA_155] at w
      omega
    · rw [m15 5 j (by omega)] at w
      exact w6 w
  · exact hB
end ZBY3
