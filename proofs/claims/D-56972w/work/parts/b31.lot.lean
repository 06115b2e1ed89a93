/-! THE SIMULATION: a lot comes in -/
set_option maxRecDepth 100000
theorem pl_zero {l : Nat} : ∀ {L : List (Int × Int)}, (∀ q ∈ L, q.1 ≠ (l : Int)) → pl L l = 0
  | [], _ => rfl
  | q :: L, h => by
    rw [pl_cons, if_neg (h q List.mem_cons_self), pl_zero (fun x hx => h x (List.mem_cons_of_mem _ hx))]; rfl
theorem isum_z0 {f : Nat → Int} : ∀ {n : Nat}, (∀ i : Nat, i < n → f i = 0) → isum n f = 0 := by
  intro n
  induction n with
  | zero => intro _; rfl
  | succ n ih => intro h; rw [isum_succ, ih (fun i hi => h i (by omega)), h n (by omega)]; rfl
theorem isum_le {f : Nat → Int} : ∀ {n : Nat}, (∀ i : Nat, i < n → f i ≤ 1) → isum n f ≤ n := by
  intro n
  induction n with
  | zero => intro _; exact Int.le_refl _
  | succ n ih => intro h; rw [isum_succ]; have := ih (fun i hi => h i (by omega)); have := h n (by omega); omega
section ZBR2
variable {z : Nat → Nat} {k : Nat} {X Y : hS} {p q c : Int} {is : Bool}
def fL (X : hS) (p q c : Int) (is : Bool) : hS := sset (fRecv1 X p q c) 6 7 (sn X 6) (bi is)
def mL (Y : hS) (p q c : Int) (is : Bool) : hS := sset (mLotS (sset (mt Y 0) 11 5 0 (sT Y 11 5 0 + 1)) p q (q * c)) 14 5 (sn Y 14) (bi is)
theorem fL_ceq {d : Nat} (h : d ≠ 0 ∧ d ≠ 6 ∧ d ≠ 22 ∧ d ≠ 26) : ceq X (fL X p q c is) d := by
  unfold fL fRecv1 fAdd kFLot
  exact ((((((((((((ceq.refl.set h.1).set h.1).snw h.2.2.2).snw h.2.1).set h.2.1).set h.2.1).set h.2.1).set h.2.1).set h.2.1).set h.2.1).ssE h.2.2.1).set h.2.1)
theorem fL_n0 : sn (fL X p q c is) 0 = sn X 0 := rfl
theorem fL_n6 : sn (fL X p q c is) 6 = sn X 6 + 1 := rfl
theorem fL_n26 : sn (fL X p q c is) 26 = sn X 26 + 1 := rfl
theorem fL_22 : sE (fL X p q c is) 22 0 = sE X 22 0 ++ [(sn X 6 : Int)] := rfl
theorem fL_26 {i : Nat} : sE (fL X p q c is) 26 i = if i = sn X 26 then [] else sE X 26 i := by
  have e : sn (sset (sset X 0 5 0 (sT X 0 5 0 + 1)) 0 7 0 (sT X 0 7 0 + q * c)) 26 = sn X 26 := rfl
  unfold fL fRecv1 fAdd kFLot
  simp only [sE_ssE, sE_set, sE_w, e]
  by_cases h : i = sn X 26 <;> simp [h]
theorem fL_0 {j i : Nat} (h5 : ¬ (j = 5 ∧ i = 0)) (h7 : ¬ (j = 7 ∧ i = 0)) : sT (fL X p q c is) 0 j i = sT X 0 j i := by
  unfold fL fRecv1 fAdd kFLot
  simp only [sT_ssE, sT_set, sT_w]
  simp [h5, h7]
theorem fL_05 : sT (fL X p q c is) 0 5 0 = sT X 0 5 0 + 1 := by
  unfold fL fRecv1 fAdd kFLot
  simp only [sT_ssE, sT_set, sT_w]
  simp
theorem fL_07 : sT (fL X p q c is) 0 7 0 = sT X 0 7 0 + q * c := by
  unfold fL fRecv1 fAdd kFLot
  simp only [sT_ssE, sT_set, sT_w]
  simp
theorem fL_old {j i : Nat} (h : i ≠ sn X 6) : sT (fL X p q c is) 6 j i = sT X 6 j i := by
  have e : sn (snw (sset (sset X 0 5 0 (sT X 0 5 0 + 1)) 0 7 0 (sT X 0 7 0 + q * c)) 26 []) 6 = sn X 6 := rfl
  unfold fL fRecv1 fAdd kFLot
  simp only [sT_ssE, sT_set, sT_w, e]
  simp [h]
theorem fL_new {j : Nat} (hj : j < 8) : sT (fL X p q c is) 6 j (sn X 6) = match j with
  | 0 => (sn X 6 : Nat) | 1 => (fPc X p : Nat) | 2 => q | 3 => (sn X 26 : Nat) | 4 => q | 6 => q * c | 7 => bi is | _ => 0 := by
  have e : sn (snw (sset (sset X 0 5 0 (sT X 0 5 0 + 1)) 0 7 0 (sT X 0 7 0 + q * c)) 26 []) 6 = sn X 6 := rfl
  unfold fL fRecv1 fAdd kFLot
  simp only [sT_ssE, sT_set, sT_w, e]
  match j, hj with
  | 0, _ => rfl
  | 1, _ => rfl
  | 2, _ => rfl
  | 3, _ => rfl
  | 4, _ => rfl
  | 5, _ => rfl
  | 6, _ => rfl
  | 7, _ => rfl
theorem mL_ceq {d : Nat} (h : d ≠ 11 ∧ d ≠ 14 ∧ d ≠ 32 ∧ d ≠ 41) : ceq Y (mL Y p q c is) d := by
  unfold mL mLotS kMLot
  exact (((((((((((ceq.refl.set h.1).set h.1).snw h.2.1).snw h.2.2.2).set h.2.1).set h.2.1).set h.2.1).set h.2.1).set h.2.1).ssE h.2.2.1).set h.2.1)
theorem mL_n14 : sn (mL Y p q c is) 14 = sn Y 14 + 1 := rfl
theorem mL_n41 : sn (mL Y p q c is) 41 = sn Y 41 + 1 := rfl
theorem mL_n11 : sn (mL Y p q c is) 11 = sn Y 11 := rfl
theorem mL_32 : sE (mL Y p q c is) 32 0 = sE Y 32 0 ++ [(sn Y 14 : Int)] := rfl
theorem mL_41 {i : Nat} : sE (mL Y p q c is) 41 i = if i = sn Y 41 then [] else sE Y 41 i := by
  have e : sn (snw (sset (mt Y 0) 11 5 0 (sT Y 11 5 0 + 1)) 14 []) 41 = sn Y 41 := rfl
  have e2 : sE (mt Y 0) 41 i = sE Y 41 i := rfl
  unfold mL mLotS kMLot
  simp only [sE_ssE, sE_set, sE_w, e, e2]
  by_cases h : i = sn Y 41 <;> simp [h]
theorem mL_11 {j i : Nat} (h0 : j ≠ 0) (h5 : ¬ (j = 5 ∧ i = 0)) : sT (mL Y p q c is) 11 j i = sT Y 11 j i := by
  unfold mL mLotS kMLot
  simp only [sT_ssE, sT_set, sT_w]
  simp [h0, h5]
theorem mL_115 : sT (mL Y p q c is) 11 5 0 = sT Y 11 5 0 + 1 := by
  unfold mL mLotS kMLot
  simp only [sT_ssE, sT_set, sT_w]
  simp
theorem mL_t0 : sT (mL Y p q c is) 11 0 0 = 0 := by
  unfold mL mLotS kMLot
  simp only [sT_ssE, sT_set, sT_w]
  simp
theorem mL_old {j i : Nat} (h : i ≠ sn Y 14) : sT (mL Y p q c is) 14 j i = sT Y 14 j i := by
  have e : sn (sset (mt Y 0) 11 5 0 (sT Y 11 5 0 + 1)) 14 = sn Y 14 := rfl
  unfold mL mLotS kMLot
  simp only [sT_ssE, sT_set, sT_w, e]
  simp [h]
theorem mL_new {j : Nat} (hj : j < 7) : sT (mL Y p q c is) 14 j (sn Y 14) = match j with
  | 0 => (sn Y 14 : Nat) | 1 => p | 2 => q | 4 => q * c | 5 => bi is | 6 => (sn Y 41 : Nat) | _ => 0 := by
  have e : sn (sset (mt Y 0) 11 5 0 (sT Y 11 5 0 + 1)) 14 = sn Y 14 := rfl
  unfold mL mLotS kMLot
  simp only [sT_ssE, sT_set, sT_w, e]
  match j, hj with
  | 0, _ => rfl
  | 1, _ => rfl
  | 2, _ => rfl
  | 3, _ => rfl
  | 4, _ => rfl
  | 5, _ => rfl
  | 6, _ => rfl
theorem iCn.lt100 {z : Nat → Nat} {k : Nat} {X : hS} (h : iCn z k X) (h30 : sn X 8 ≤ 30) (h60 : sT X 0 5 0 < 60) : sn X 6 < 100 := by
  have h1 := h.2.2.2.1
  have h2 := isum_le (n := sn X 8) (f := fun o => if sT X 8 7 o = (z 4 : Nat) ∨ sT X 8 7 o = (z 5 : Nat) then (1 : Int) else 0) (fun i _ => by
    show (if sT X 8 7 i = (z 4 : Nat) ∨ sT X 8 7 i = (z 5 : Nat) then (1 : Int) else 0) ≤ 1
    split <;> decide)
  omega
theorem pairL (hR : rR z X Y) (hI : iAll z k X) (hS : mShape Y) (hB : mBox Y) (hp : fIsP X p) (hq : 1 ≤ q ∧ q ≤ 500) (hc : 0 ≤ c ∧ c ≤ 999) (h60 : sT X 0 5 0 < 60) :
    rR z (fL X p q c is) (mL Y p q c is) ∧ iAll z (k + 1) (fL X p q c is) ∧ mShape (mL Y p q c is) ∧ mBox (mL Y p q c is) := by
  obtain ⟨pi, rfl, hpi⟩ := idx hp
  have hpi : pi < np X := hpi
  have hqc : q * c ≤ 500 * 999 := Int.mul_le_mul hq.2 hc.2 hc.1 (by decide)
  have hqc0 : 0 ≤ q * c := Int.mul_nonneg (by omega) hc.1
  have u := fun (d : Nat) (h : d ≠ 0 ∧ d ≠ 6 ∧ d ≠ 22 ∧ d ≠ 26) => fL_ceq (X := X) (p := (pi : Nat)) (q := q) (c := c) (is := is) h
  have g := fun (d : Nat) (h : d ≠ 11 ∧ d ≠ 14 ∧ d ≠ 32 ∧ d ≠ 41) => mL_ceq (Y := Y) (p := (pi : Nat)) (q := q) (c := c) (is := is) h
  have old := fun (j i : Nat) (h : i ≠ sn X 6) => fL_old (p := (pi : Nat)) (q := q) (c := c) (is := is) (j := j) h
  have new := fun (j : Nat) (h : j < 8) => fL_new (X := X) (p := (pi : Nat)) (q := q) (c := c) (is := is) h
  have mold := fun (j i : Nat) (h : i ≠ sn Y 14) => mL_old (p := (pi : Nat)) (q := q) (c := c) (is := is) (j := j) h
  have mnew := fun (j : Nat) (h : j < 7) => mL_new (Y := Y) (p := (pi : Nat)) (q := q) (c := c) (is := is) h
  have f0 := fun (j : Nat) (h5 : j ≠ 5) (h7 : j ≠ 7) => fL_0 (X := X) (p := (pi : Nat)) (q := q) (c := c) (is := is) (j := j) (i := 0) (fun w => h5 w.1) (fun w => h7 w.1)
  have m11 := fun (j : Nat) (h0 : j ≠ 0) (h5 : j ≠ 5) => mL_11 (Y := Y) (p := (pi : Nat)) (q := q) (c := c) (is := is) (j := j) (i := 0) h0 (fun w => h5 w.1)
  have f26 : ∀ i : Nat, i < sn X 26 → sE (fL X (pi : Nat) q c is) 26 i = sE X 26 i := fun i hi => by rw [fL_26, if_neg (by omega)]
  have g26 : sE (fL X (pi : Nat) q c is) 26 (sn X 26) = [] := by rw [fL_26, if_pos rfl]
  have h14 : sn Y 14 = sn X 6 := hR.L.1
  have h41 : sn Y 41 = sn Y 14 := hS.2.2.2.2.2.2.1
  have enp : np (fL X (pi : Nat) q c is) = np X := by
    show (sE _ 21 0).length = (sE X 21 0).length
    rw [(u 21 (by decide)).2.2]
  have epc : ∀ q' : Int, fPc (fL X (pi : Nat) q c is) q' = fPc X q' := fPc_congr ((u 21 (by decide)).2.2 0)
  have u7 := u 7 (by decide)
  have u8 := u 8 (by decide)
  obtain ⟨i1, i2, i3, i4, i5, i6, i7, i8, i9, i10, i11, i12, i13, i14⟩ := hI
  have h30 := i1.2.2.2.2.2.2.2.2.2.2.2.1
  have h100 := iCn.lt100 i13 h30 h60
  have oL : ∀ j : Nat, j < sn X 8 → fOL X j < sn X 26 := fun j hj => by
    have := (i6 j hj).2.2.2.2.2.1
    unfold fOL; omega
  have eOL : ∀ j : Nat, fOL (fL X (pi : Nat) q c is) j = fOL X j := fun j => by unfold fOL; rw [u8.2.1]
  have eDL : ∀ j : Nat, fDelL (fL X (pi : Nat) q c is) j = fDelL X j := fun j => by unfold fDelL; rw [u8.2.1]
  have etl : ∀ j : Nat, j < sn X 8 → fTl (fL X (pi : Nat) q c is) j = fTl X j := fun j hj =>
    fTl_congr (eOL j) (f26 _ (oL j hj)) (fun t _ => ⟨u7.2.1 0 _, u7.2.1 1 _⟩)
  have edv : ∀ j : Nat, fDv (fL X (pi : Nat) q c is) j = fDv X j := fun j => by
    unfold fDv
    rw [eDL, (u 27 (by decide)).2.2]
    exact List.map_congr_left (fun t _ => by rw [u7.2.1, u7.2.1])
  have ech : ∀ i : Nat, i < sn X 6 → fch (fL X (pi : Nat) q c is) i = fch X i := fun i hi =>
    fch_congr (old 3 i (by omega)) (f26 _ (by have := (i4 i hi).2.2.2.1; omega)) (fun t _ => u7.2.1 0 _)
  have hlt : ∀ i : Nat, i < sn X 6 → ∀ y ∈ fch X i, y < sn X 6 := by
    intro i hi y hy
    obtain ⟨t, ht, rfl⟩ := List.mem_map.mp hy
    have := (i4 i hi).2.2.2.2.2 t ht
    omega
  refine ⟨⟨?_, ?_, ?_, ?_, ?_, ?_, ?_⟩, ⟨?_, (i2.cg (u 2 (by decide)) (u 3 (by decide)) (u 4 (by decide)) (u 5 (by decide)) (u 21 (by decide)) (u 24 (by decide)) (u 25 (by decide)) (Nat.le_refl _)) |> (fun h => ?_), ?_, ?_, ?_, ?_, ?_, i8.cg (u 1 (by decide)) (u 2 (by decide)) (u 8 (by decide)) (u 25 (by decide)) (u 45 (by decide)), ?_, ?_, ?_, ?_, ?_, i14.cg (u 9 (by decide)) (u 28 (by decide)) (u 48 (by decide))⟩, ?_, ?_⟩
  · have hg := hR.G
    unfold rG at hg ⊢
    rw [mL_115, m11 8 (by decide) (by decide), fL_05, f0 6 (by decide) (by decide)]
    exact ⟨by rw [hg.1], hg.2⟩
  · exact rM_congr (fun k i => (u 1 (by decide)).2.1 k i) (u 1 (by decide)).1 (fun k i => (g 12 (by decide)).2.1 k i) (g 12 (by decide)).1 hR.M
  · exact rP_congr (fun c k i hc => (u c (by omega)).2.1 k i) (fun c i hc => (u c (by omega)).2.2 i) (fun k i => (g 13 (by decide)).2.1 k i) (fun c i hc => (g c (by omega)).2.2 i) (g 13 (by decide)).1 hR.P
  · refine ⟨by rw [mL_n14, fL_n6, h14], fun l hl => ?_⟩
    rw [fL_n6] at hl
    by_cases e : l = sn X 6
    · have N : ∀ i : Nat, sT (fL X (pi : Nat) q c is) 6 i l = sT (fL X (pi : Nat) q c is) 6 i (sn X 6) := fun i => by rw [e]
      have M : ∀ i : Nat, sT (mL Y (pi : Nat) q c is) 14 i l = sT (mL Y (pi : Nat) q c is) 14 i (sn Y 14) := fun i => by rw [e, h14]
      refine ⟨⟨pi, by rw [enp]; exact hpi, (M 1).trans (mnew 1 (by decide)), ((N 1).trans (new 1 (by decide))).trans (show ((fPc X ((pi : Nat) : Int) : Nat) : Int) = _ by rw [epc])⟩, ?_, ?_, ?_, ?_, ?_⟩
      · exact ((M 2).trans (mnew 2 (by decide))).trans ((N 4).trans (new 4 (by decide))).symm
      · exact ((M 3).trans (mnew 3 (by decide))).trans ((N 5).trans (new 5 (by decide))).symm
      · exact ((M 4).trans (mnew 4 (by decide))).trans ((N 6).trans (new 6 (by decide))).symm
      · exact ((M 5).trans (mnew 5 (by decide))).trans ((N 7).trans (new 7 (by decide))).symm
      · have n3 : sT (fL X (pi : Nat) q c is) 6 3 l = (sn X 26 : Nat) := (N 3).trans (new 3 (by decide))
        have n6 : sT (mL Y (pi : Nat) q c is) 14 6 l = (sn Y 41 : Nat) := (M 6).trans (mnew 6 (by decide))
        unfold mch fch
        rw [n3, n6, Int.toNat_natCast, Int.toNat_natCast, g26, mL_41, if_pos rfl]
        rfl
    · have hl : l < sn X 6 := by omega
      obtain ⟨⟨p', g1, g2, g3⟩, g4, g5, g6, g7, g8⟩ := hR.L.2 l hl
      have hs := (hS.2.2.1 l (by omega)).2.1
      rw [mold 1 l (by omega), mold 2 l (by omega), mold 3 l (by omega), mold 4 l (by omega), mold 5 l (by omega), old 1 l e, old 4 l e, old 5 l e, old 6 l e, old 7 l e, ech l hl]
      refine ⟨⟨p', by rw [enp]; exact g1, g2, by rw [epc]; exact g3⟩, g4, g5, g6, g7, ?_⟩
      rw [← g8]
      unfold mch
      rw [mold 6 l (by omega), mL_41, if_neg (by omega)]
  · refine ⟨by rw [(g 15 (by decide)).1, u8.1]; exact hR.O.1, fun j hj => ?_⟩
    rw [u8.1] at hj
    obtain ⟨g1, g2, g3, g4⟩ := hR.O.2 j hj
    have m15 := g 15 (by decide)
    refine ⟨rOa_congr (fun i _ => u8.2.1 i j) ((u 21 (by decide)).2.2 0) (fun i _ => m15.2.1 i j) g1, rOb_congr (fun i _ => u8.2.1 i j) (fun i _ => m15.2.1 i j) g2, ⟨?_, ?_⟩, ?_⟩
    · rw [etl j hj, mTl_congr ((g 38 (by decide)).2.2 j) ((g 39 (by decide)).2.2 j) (fun x _ => (g 19 (by decide)).2.1 0 _)]
      exact g3.1
    · rw [(g 38 (by decide)).2.2, (g 39 (by decide)).2.2]; exact g3.2
    · exact rD_congr (eDL j) ((u 27 (by decide)).2.2 _) (fun t _ => ⟨u7.2.1 0 _, u7.2.1 2 _⟩) ((g 40 (by decide)).2.2 j) (m15.2.1 15 j) g4
  · exact rQ_congr (fun m _ => (u 45 (by decide)).2.2 m) (u 1 (by decide)).1 u8.1 (fun o _ => ⟨(g 15 (by decide)).2.1 5 o, (g 15 (by decide)).2.1 10 o⟩) hR.Q
  · exact rS_congr (fun x _ => ⟨(u 28 (by decide)).2.2 x, (u 9 (by decide)).2.1 0 x⟩) (fun c i hc => (g c (by omega)).2.2 i) (g 35 (by decide)).1 hR.S
  · unfold fFix at i1 ⊢
    obtain ⟨x1, x2, x3, x4, x5, x6, x7, x8, x9, x10, x11, x12, x13, x14⟩ := i1
    rw [fL_n0, f0 0 (by decide) (by decide), f0 1 (by decide) (by decide), f0 2 (by decide) (by decide), f0 3 (by decide) (by decide), f0 4 (by decide) (by decide), (u 20 (by decide)).2.2, (u 21 (by decide)).2.2, (u 23 (by decide)).2.2, (u 1 (by decide)).1, u8.1, fL_n6, fL_22, x8, idl_succ]
    exact ⟨x1, x2, x3, x4, x5, x6, x7, rfl, x9, x10, h100, x12, x13, x14⟩
  · obtain ⟨a1, a2, a3, a4, a5, a6⟩ := h
    refine ⟨a1, a2, a3, a4, fun c i hc hi => ?_, a6⟩
    have := a5 c i hc hi
    omega
  · obtain ⟨a1, a2, a3⟩ := i3
    simp only [iMc, (u 1 (by decide)).1, (u 1 (by decide)).2.1, (u 45 (by decide)).1, f0 6 (by decide) (by decide)]
    exact ⟨a1, a2, a3⟩
  · intro l hl
    rw [fL_n6] at hl
    rw [fL_n26]
    by_cases e : l = sn X 6
    · have N : ∀ i : Nat, sT (fL X (pi : Nat) q c is) 6 i l = sT (fL X (pi : Nat) q c is) 6 i (sn X 6) := fun i => by rw [e]
      have n3 : sT (fL X (pi : Nat) q c is) 6 3 l = (sn X 26 : Nat) := (N 3).trans (new 3 (by decide))
      refine ⟨((N 0).trans (new 0 (by decide))).trans (show ((sn X 6 : Nat) : Int) = l by rw [e]), ⟨pi, by rw [enp]; exact hpi, ((N 1).trans (new 1 (by decide))).trans (show ((fPc X ((pi : Nat) : Int) : Nat) : Int) = _ by rw [epc])⟩, ?_, ?_, ?_, ?_⟩
      · rw [show sT (fL X (pi : Nat) q c is) 6 2 l = q from (N 2).trans (new 2 (by decide))]; exact hq
      · rw [n3]; omega
      · rw [show sT (fL X (pi : Nat) q c is) 6 7 l = bi is from (N 7).trans (new 7 (by decide))]; exact bi01 _
      · rw [n3, Int.toNat_natCast, g26]; exact fun t ht => absurd ht List.not_mem_nil
    · obtain ⟨a1, ⟨p', a2, a3⟩, a4, a5, a6, a7⟩ := i4 l (by omega)
      rw [old 0 l e, old 1 l e, old 2 l e, old 3 l e, old 7 l e, f26 _ (by omega)]
      refine ⟨a1, ⟨p', by rw [enp]; exact a2, by rw [epc]; exact a3⟩, a4, by omega, a6, fun t ht => ?_⟩
      rw [u7.2.1]
      exact a7 t ht
  · obtain ⟨a1, a2, a3⟩ := i5
    simp only [iTk, fL_n26, (u 27 (by decide)).1, (u 27 (by decide)).2.2, u7.1, u7.2.1, fL_n6]
    refine ⟨fun i hi t ht => ?_, a2, fun t ht => ?_⟩
    · by_cases e : i = sn X 26
      · rw [e, g26] at ht; cases ht
      · rw [f26 i (by omega)] at ht; exact a1 i (by omega) t ht
    · have := a3 t ht
      omega
  · intro j hj
    rw [u8.1] at hj
    obtain ⟨a0, a1, a2, a3, a4, a5, a6, a7, a8, a9, a10, a11, a12, a13, a14, a15, a16⟩ := i6 j hj
    simp only [u8.2.1, enp, epc, fL_n26, (u 27 (by decide)).1, fL_n6]
    refine ⟨a0, a1, a2, a3, a4, by omega, a6, a7, a8, a9, by omega, a11, a12, a13, a14, a15, fun h => ?_⟩
    rw [old 1 _ (by omega)]
    exact a16 h
  · obtain ⟨a1, a2, a3, a4⟩ := i7
    simp only [iSp, u8.1, u8.2.1, fL_n6]
    have b3 : ∀ l : Nat, l < sn X 6 + 1 → (l = sn X 6 ∧ sT (fL X (pi : Nat) q c is) 6 3 l = (sn X 26 : Nat)) ∨ (l < sn X 6 ∧ sT (fL X (pi : Nat) q c is) 6 3 l = sT X 6 3 l ∧ sT X 6 3 l < sn X 26) := fun l hl => by
      by_cases e : l = sn X 6
      · exact Or.inl ⟨e, by rw [e]; exact new 3 (by decide)⟩
      · have := (i4 l (by omega)).2.2.2.1
        exact Or.inr ⟨by omega, old 3 l e, this.2⟩
    refine ⟨a1, a2, fun l y hl hy h => ?_, fun x y hx hy h => ?_⟩
    · have h5 := (i6 y hy).2.2.2.2.2.1
      rcases b3 l hl with ⟨c1, c2⟩ | ⟨c1, c2, c3⟩
      · omega
      · exact a3 l y c1 hy (by omega)
    · rcases b3 x hx with ⟨c1, c2⟩ | ⟨c1, c2, c3⟩ <;> rcases b3 y hy with ⟨d1, d2⟩ | ⟨d1, d2, d3⟩
      · omega
      · omega
      · omega
      · exact a4 x y c1 d1 (by omega)
  · intro l hl
    rw [fL_n6] at hl
    have bo : ∀ j : Nat, fPr z (fL X (pi : Nat) q c is) j = fPr z X j := fun j => by unfold fPr; rw [u8.2.1]
    have c1 : isum (sn X 8) (fun j => if fPr z (fL X (pi : Nat) q c is) j = true then pl (fTl (fL X (pi : Nat) q c is) j) l else 0) = isum (sn X 8) (fun o => if fPr z X o = true then pl (fTl X o) l else 0) := isum_cg (fun j hj => by rw [bo j, etl j hj])
    have c2 : isum (sn X 8) (fun j => (if fPr z (fL X (pi : Nat) q c is) j = true then 0 else pl (fTl (fL X (pi : Nat) q c is) j) l) + pl (fDv (fL X (pi : Nat) q c is) j) l) = isum (sn X 8) (fun o => (if fPr z X o = true then 0 else pl (fTl X o) l) + pl (fDv X o) l) := isum_cg (fun j hj => by rw [bo j, etl j hj, edv j])
    rw [u8.1, c1, c2]
    by_cases e : l = sn X 6
    · have N : ∀ i : Nat, sT (fL X (pi : Nat) q c is) 6 i l = sT (fL X (pi : Nat) q c is) 6 i (sn X 6) := fun i => by rw [e]
      have n2 : sT (fL X (pi : Nat) q c is) 6 2 l = q := (N 2).trans (new 2 (by decide))
      have n4 : sT (fL X (pi : Nat) q c is) 6 4 l = q := (N 4).trans (new 4 (by decide))
      have n5 : sT (fL X (pi : Nat) q c is) 6 5 l = 0 := (N 5).trans (new 5 (by decide))
      have zt : ∀ j : Nat, j < sn X 8 → pl (fTl X j) l = 0 := fun j hj => pl_zero (fun x hx => by
        obtain ⟨t, ht, rfl⟩ := List.mem_map.mp hx
        have := i5.1 (fOL X j) (oL j hj) t ht
        have := (i5.2.2 t.toNat (by omega)).1
        show sT X 7 0 t.toNat ≠ _
        omega)
      have zd : ∀ j : Nat, j < sn X 8 → pl (fDv X j) l = 0 := fun j hj => pl_zero (fun x hx => by
        obtain ⟨t, ht, rfl⟩ := List.mem_map.mp hx
        have h6 := (i6 j hj).2.2.2.2.2.2.1
        have := i5.2.1 (fDelL X j) (by unfold fDelL; omega) t ht
        have := (i5.2.2 t.toNat (by omega)).1
        show sT X 7 0 t.toNat ≠ _
        omega)
      rw [n2, n4, n5, isum_z0 (fun j hj => by
        show (if fPr z X j = true then pl (fTl X j) l else 0) = 0
        rw [zt j hj]; split <;> rfl), isum_z0 (fun j hj => by
        show (if fPr z X j = true then 0 else pl (fTl X j) l) + pl (fDv X j) l = 0
        rw [zt j hj, zd j hj]; split <;> rfl)]
      exact ⟨rfl, by omega, by omega⟩
    · rw [old 5 l e, old 4 l e, old 2 l e]
      exact i9 l (by omega)
  · obtain ⟨a1, a2, a3, a4, a5, a6⟩ := i10
    have co : ∀ j : Nat, fCoO z (fL X (pi : Nat) q c is) j = fCoO z X j := fun j => by
      unfold fCoO fUw fStg
      rw [eDL]
      simp only [u8.2.1, (u 27 (by decide)).2.2, u7.2.1]
    have cs : fSumO z (fL X (pi : Nat) q c is) (sn X 8) = fSumO z X (sn X 8) + q * c := by
      unfold fSumO fSumL
      rw [fL_n6, List.range_succ, List.map_append, List.sum_append, List.map_cons, List.map_nil, List.sum_cons, List.sum_nil, f0 9 (by decide) (by decide), show (List.range (sn X 6)).map (fun l => sT (fL X (pi : Nat) q c is) 6 6 l) = (List.range (sn X 6)).map (fun l => sT X 6 6 l) from List.map_congr_left (fun l hl => old 6 l (by have := List.mem_range.mp hl; omega)), show sT (fL X (pi : Nat) q c is) 6 6 (sn X 6) = q * c from new 6 (by decide), List.map_congr_left (fun j _ => co j)]
      omega
    refine ⟨fun l hl => ?_, fun j hj => ?_, fun t ht => ?_, ?_, ?_, ?_⟩
    · rw [fL_n6] at hl
      by_cases e : l = sn X 6
      · rw [e, show sT (fL X (pi : Nat) q c is) 6 6 (sn X 6) = q * c from new 6 (by decide)]; exact hqc0
      · rw [old 6 l e]; exact a1 l (by omega)
    · rw [u8.1] at hj
      rw [u8.2.1]
      exact a2 j hj
    · rw [u7.1] at ht
      rw [u7.2.1]
      exact a3 t ht
    · rw [f0 9 (by decide) (by decide)]; exact a4
    · rw [u8.1, cs, fL_07, f0 8 (by decide) (by decide)]; omega
    · rw [fL_07, f0 8 (by decide) (by decide)]; omega
  · intro j hj hb t ht
    rw [u8.1] at hj
    have hb : fPr z X j = true := by
      unfold fPr at hb ⊢
      rw [u8.2.1] at hb
      exact hb
    rw [eOL, f26 _ (oL j hj)] at ht
    have e7 : fLotOf (fL X (pi : Nat) q c is) t = fLotOf X t := by unfold fLotOf; rw [u7.2.1]
    have hl := i5.1 (fOL X j) (oL j hj) t ht
    have hl := (i5.2.2 t.toNat (by omega)).1
    rw [e7, tHeld_cg (h := fh X) (N := sn X 6) (fun i hi => by unfold fh; rw [old 7 i (by omega)]) ech hlt 100 _ (by unfold fLotOf; omega)]
    exact i11 j hj hb t ht
  · intro j hj
    rw [u8.1] at hj
    rw [eOL, eDL, f26 _ (oL j hj), (u 27 (by decide)).2.2, u8.2.1]
    exact i12 j hj
  · obtain ⟨a1, a2, a3, a4, a5⟩ := i13
    simp only [iCn, u8.1, u8.2.1, fL_05, (u 28 (by decide)).2.2, fL_n6]
    refine ⟨by omega, by omega, by omega, ?_, fun x hx => ?_⟩
    · push_cast
      omega
    · have := a5 x hx
      omega
  · obtain ⟨s1, s2, s3, s4, t1, t2, t3, t4, t5, t6⟩ := hS
    refine ⟨?_, ?_, ?_, fun j hj => ?_, ?_⟩
    · unfold mFix at s1 ⊢
      obtain ⟨x1, x2, x3, x4, x5, x6, x7, x8, x9, x10, x11, x12, x13, x14, x15⟩ := s1
      rw [mL_n11, m11 1 (by decide) (by decide), m11 2 (by decide) (by decide), m11 3 (by decide) (by decide), m11 4 (by decide) (by decide), m11 6 (by decide) (by decide), m11 7 (by decide) (by decide), (g 30 (by decide)).2.2, (g 31 (by decide)).2.2, (g 33 (by decide)).2.2, mL_32, (g 12 (by decide)).1, (g 13 (by decide)).1, (g 15 (by decide)).1, mL_n14, x10, idl_succ]
      exact ⟨x1, x2, x3, x4, x5, x6, x7, x8, x9, rfl, x11, x12, x13, by omega, x15⟩
    · simp only [(g 13 (by decide)).1, (g 13 (by decide)).2.1, (g 36 (by decide)).2.2, (g 37 (by decide)).2.2, (g 46 (by decide)).1]
      exact s2
    · intro l hl
      rw [mL_n14] at hl
      by_cases e : l = sn Y 14
      · have M : ∀ i : Nat, sT (mL Y (pi : Nat) q c is) 14 i l = sT (mL Y (pi : Nat) q c is) 14 i (sn Y 14) := fun i => by rw [e]
        refine ⟨((M 0).trans (mnew 0 (by decide))).trans (show ((sn Y 14 : Nat) : Int) = l by rw [e]), ((M 6).trans (mnew 6 (by decide))).trans (show ((sn Y 41 : Nat) : Int) = l by rw [e, h41]), ?_⟩
        rw [mL_41, if_pos (by omega)]
        exact fun t ht => absurd ht List.not_mem_nil
      · rw [mold 0 l e, mold 6 l e, mL_41, if_neg (by omega)]
        exact s3 l (by omega)
    · rw [(g 15 (by decide)).1] at hj
      simp only [(g 15 (by decide)).2.1, (g 12 (by decide)).1]
      exact s4 j hj
    · rw [(g 36 (by decide)).1, (g 37 (by decide)).1, (g 38 (by decide)).1, (g 39 (by decide)).1, (g 40 (by decide)).1, (g 13 (by decide)).1, (g 15 (by decide)).1, mL_n14, mL_n41]
      exact ⟨t1, t2, by omega, t4, t5, t6⟩
  · exact hB.cg (g 15 (by decide)).1 (g 19 (by decide)) (g 39 (by decide))
end ZBR2
