/-! THE SIMULATION: order -/
set_option maxRecDepth 100000
section ZBO1
variable {z : Nat → Nat} {k : Nat} {X Y : hS} {p q o d : Int}
theorem fO_ceq {c : Nat} (h : c ≠ 8 ∧ c ≠ 23 ∧ c ≠ 26 ∧ c ≠ 27) : ceq X (fOrderS z X p q o d) c := by
  unfold fOrderS kFOrder
  exact (((((((((((ceq.refl.snw h.1).snw h.2.2.1).set h.1).snw h.2.2.2).set h.1).set h.1).set h.1).set h.1).set h.1).set h.1).set h.1).ssE h.2.1
theorem fO_n8 : sn (fOrderS z X p q o d) 8 = sn X 8 + 1 := rfl
theorem fO_n26 : sn (fOrderS z X p q o d) 26 = sn X 26 + 1 := rfl
theorem fO_n27 : sn (fOrderS z X p q o d) 27 = sn X 27 + 1 := rfl
theorem fO_23 : sE (fOrderS z X p q o d) 23 0 = sE X 23 0 ++ [(sn X 8 : Int)] := by
  unfold fOrderS
  rw [sE_ssE, if_pos ⟨rfl, rfl⟩]
theorem fO_26 {i : Nat} : sE (fOrderS z X p q o d) 26 i = if i = sn X 26 then [] else sE X 26 i := by
  have e : sn (snw X 8 []) 26 = sn X 26 := rfl
  unfold fOrderS kFOrder
  simp only [sE_ssE, sE_set, sE_w, e]
  by_cases h : i = sn X 26
  · simp [h]
  · simp [h]
theorem fO_27 {i : Nat} : sE (fOrderS z X p q o d) 27 i = if i = sn X 27 then [] else sE X 27 i := by
  have e : sn (snw (snw X 8 []) 26 []) 27 = sn X 27 := rfl
  unfold fOrderS kFOrder
  simp only [sE_ssE, sE_set, sE_w, sn_set, e]
  by_cases h : i = sn X 27
  · simp [h]
  · simp [h]
theorem fO_old {j i : Nat} (h : i ≠ sn X 8) : sT (fOrderS z X p q o d) 8 j i = sT X 8 j i := by
  unfold fOrderS kFOrder
  rw [sT_ssE, sT_set, if_neg (by omega), sT_set, if_neg (by omega), sT_set, if_neg (by omega), sT_set, if_neg (by omega), sT_set, if_neg (by omega), sT_set, if_neg (by omega), sT_set, if_neg (by omega), sT_w, if_neg (by omega), sT_set, if_neg (by omega), sT_w, if_neg (by omega), sT_w, if_neg (by omega)]
theorem fO_new {j : Nat} (hj : j < 14) : sT (fOrderS z X p q o d) 8 j (sn X 8) = match j with
  | 0 => (sn X 8 : Nat) | 1 => (fPc X p : Nat) | 2 => q | 3 => o | 4 => d | 5 => (sn X 26 : Nat) | 6 => (sn X 27 : Nat) | 7 => (z 0 : Nat) | 13 => -1 | _ => 0 := by
  unfold fOrderS kFOrder
  simp only [sT_ssE, sT_set, sT_w]
  match j, hj with
  | 0, _ => rfl
  | 1, _ => rfl
  | 2, _ => rfl
  | 3, _ => rfl
  | 4, _ => rfl
  | 5, _ => rfl
  | 6, _ => rfl
  | 7, _ => rfl
  | 8, _ => rfl
  | 9, _ => rfl
  | 10, _ => rfl
  | 11, _ => rfl
  | 12, _ => rfl
  | 13, _ => rfl
theorem mO_ceq {c : Nat} (h : c ≠ 11 ∧ c ≠ 15 ∧ c ≠ 33 ∧ c ≠ 38 ∧ c ≠ 39 ∧ c ≠ 40) : ceq Y (mOrderS Y p q o d) c := by
  unfold mOrderS kMOrder
  have h15 := h.2.1
  exact (((((((((((((((((ceq.refl.set h.1).snw h15).set h15).snw h.2.2.2.1).set h15).snw h.2.2.2.2.1).set h15).set h15).set h15).snw h.2.2.2.2.2).set h15).set h15).set h15).set h15).set h15).set h15).ssE h.2.2.1)
theorem mO_11 {j i : Nat} (hj : j ≠ 0) : sT (mOrderS Y p q o d) 11 j i = sT Y 11 j i := by
  unfold mOrderS kMOrder
  simp only [sT_ssE, sT_set, sT_w]
  simp [hj]
theorem mO_t0 : sT (mOrderS Y p q o d) 11 0 0 = 0 := by
  unfold mOrderS kMOrder
  simp only [sT_ssE, sT_set, sT_w]
  rfl
theorem mO_33 : sE (mOrderS Y p q o d) 33 0 = sE Y 33 0 ++ [(sn Y 15 : Int)] := by
  unfold mOrderS
  rw [sE_ssE, if_pos ⟨rfl, rfl⟩]
theorem mO_l {c i : Nat} (hc : c = 38 ∨ c = 39 ∨ c = 40) : sE (mOrderS Y p q o d) c i = if i = sn Y c then [] else sE Y c i := by
  have e1 : sn (mt Y 0) 38 = sn Y 38 := rfl
  have e2 : sn (mt Y 0) 39 = sn Y 39 := rfl
  have e3 : sn (mt Y 0) 40 = sn Y 40 := rfl
  unfold mOrderS kMOrder
  simp only [sE_ssE, sE_set, sE_w, sn_w, sn_set]
  rcases hc with rfl | rfl | rfl
  · by_cases h : i = sn Y 38 <;> simp [h, e1]
  · by_cases h : i = sn Y 39 <;> simp [h, e2]
  · by_cases h : i = sn Y 40 <;> simp [h, e3]
theorem mO_n {c : Nat} (hc : c = 15 ∨ c = 38 ∨ c = 39 ∨ c = 40) : sn (mOrderS Y p q o d) c = sn Y c + 1 := by
  rcases hc with rfl | rfl | rfl | rfl <;> rfl
theorem mO_old {j i : Nat} (h : i ≠ sn Y 15) : sT (mOrderS Y p q o d) 15 j i = sT Y 15 j i := by
  unfold mOrderS kMOrder
  have e : sn (mt Y 0) 15 = sn Y 15 := rfl
  simp only [sT_ssE, sT_set, sT_w, e, sn_w, sn_set]
  simp [h]
theorem mO_new {j : Nat} (hj : j < 17) : sT (mOrderS Y p q o d) 15 j (sn Y 15) = match j with
  | 0 => (sn Y 15 : Nat) | 1 => p | 2 => q | 3 => o | 4 => d | 5 => 45 | 6 => (sn Y 38 : Nat) | 7 => (sn Y 39 : Nat) | 12 => -1 | 13 => -1 | 14 => -1 | 16 => (sn Y 40 : Nat) | _ => 0 := by
  unfold mOrderS kMOrder
  have e : sn (mt Y 0) 15 = sn Y 15 := rfl
  simp only [sT_ssE, sT_set, sT_w, e]
  match j, hj with
  | 0, _ => rfl
  | 1, _ => rfl
  | 2, _ => rfl
  | 3, _ => rfl
  | 4, _ => rfl
  | 5, _ => rfl
  | 6, _ => rfl
  | 7, _ => rfl
  | 8, _ => rfl
  | 9, _ => rfl
  | 10, _ => rfl
  | 11, _ => rfl
  | 12, _ => rfl
  | 13, _ => rfl
  | 14, _ => rfl
  | 15, _ => rfl
  | 16, _ => rfl
  | n + 17, h => omega
end ZBO1
section ZBO2
variable {z : Nat → Nat} {k : Nat} {X Y : hS} {p q o d : Int}
theorem pairO (hz : zInj z) (hR : rR z X Y) (hI : iAll z k X) (hS : mShape Y) (hB : mBox Y) (hp : fIsP X p) (hok : (1 ≤ q ∧ q ≤ 100) ∧ (0 ≤ o ∧ o ≤ 2) ∧ (0 ≤ d ∧ d ≤ 9999)) (h30 : sn X 8 < 30) :
    rR z (fOrderS z X p q o d) (mOrderS Y p q o d) ∧ iAll z (k + 1) (fOrderS z X p q o d) ∧ mShape (mOrderS Y p q o d) ∧ mBox (mOrderS Y p q o d) := by
  obtain ⟨pi, rfl, hpi⟩ := idx hp
  have hpi : pi < np X := hpi
  have u := fun (c : Nat) (h : c ≠ 8 ∧ c ≠ 23 ∧ c ≠ 26 ∧ c ≠ 27) => fO_ceq (z := z) (X := X) (p := (pi : Nat)) (q := q) (o := o) (d := d) h
  have g := fun (c : Nat) (h : c ≠ 11 ∧ c ≠ 15 ∧ c ≠ 33 ∧ c ≠ 38 ∧ c ≠ 39 ∧ c ≠ 40) => mO_ceq (Y := Y) (p := (pi : Nat)) (q := q) (o := o) (d := d) h
  have old := fun (j i : Nat) (h : i ≠ sn X 8) => fO_old (z := z) (p := (pi : Nat)) (q := q) (o := o) (d := d) (j := j) h
  have new := fun (j : Nat) (h : j < 14) => fO_new (z := z) (X := X) (p := (pi : Nat)) (q := q) (o := o) (d := d) h
  have mold := fun (j i : Nat) (h : i ≠ sn Y 15) => mO_old (p := (pi : Nat)) (q := q) (o := o) (d := d) (j := j) h
  have mnew := fun (j : Nat) (h : j < 17) => mO_new (Y := Y) (p := (pi : Nat)) (q := q) (o := o) (d := d) h
  have m11 := fun (j i : Nat) (h : j ≠ 0) => mO_11 (Y := Y) (p := (pi : Nat)) (q := q) (o := o) (d := d) (i := i) h
  have f26 : ∀ i : Nat, i < sn X 26 → sE (fOrderS z X (pi : Nat) q o d) 26 i = sE X 26 i := fun i hi => by rw [fO_26, if_neg (by omega)]
  have f27 : ∀ i : Nat, i < sn X 27 → sE (fOrderS z X (pi : Nat) q o d) 27 i = sE X 27 i := fun i hi => by rw [fO_27, if_neg (by omega)]
  have g26 : sE (fOrderS z X (pi : Nat) q o d) 26 (sn X 26) = [] := by rw [fO_26, if_pos rfl]
  have g27 : sE (fOrderS z X (pi : Nat) q o d) 27 (sn X 27) = [] := by rw [fO_27, if_pos rfl]
  have h15 : sn Y 15 = sn X 8 := hR.O.1
  obtain ⟨t1, t2, t3, t4, t5, t6⟩ := hS.2.2.2.2
  have ml := fun (c i : Nat) (hc : c = 38 ∨ c = 39 ∨ c = 40) => mO_l (Y := Y) (p := (pi : Nat)) (q := q) (o := o) (d := d) (i := i) hc
  have mln : ∀ c : Nat, c = 38 ∨ c = 39 ∨ c = 40 → sE (mOrderS Y (pi : Nat) q o d) c (sn X 8) = [] := fun c hc => by rw [ml c _ hc, if_pos (by rcases hc with rfl | rfl | rfl <;> omega)]
  have mlo : ∀ c i : Nat, c = 38 ∨ c = 39 ∨ c = 40 → i < sn X 8 → sE (mOrderS Y (pi : Nat) q o d) c i = sE Y c i := fun c i hc hi => by rw [ml c _ hc, if_neg (by rcases hc with rfl | rfl | rfl <;> omega)]
  have mnew' : ∀ j : Nat, sT (mOrderS Y (pi : Nat) q o d) 15 j (sn X 8) = sT (mOrderS Y (pi : Nat) q o d) 15 j (sn Y 15) := fun j => by rw [h15]
  have z01 : z 0 ≠ z 1 := fun e => absurd (hz 0 1 (by decide) (by decide) e) (by decide)
  have z02 : z 0 ≠ z 2 := fun e => absurd (hz 0 2 (by decide) (by decide) e) (by decide)
  have z03 : z 0 ≠ z 3 := fun e => absurd (hz 0 3 (by decide) (by decide) e) (by decide)
  have z04 : z 0 ≠ z 4 := fun e => absurd (hz 0 4 (by decide) (by decide) e) (by decide)
  have z05 : z 0 ≠ z 5 := fun e => absurd (hz 0 5 (by decide) (by decide) e) (by decide)
  have stn : sT (fOrderS z X (pi : Nat) q o d) 8 7 (sn X 8) = (z 0 : Nat) := new 7 (by decide)
  have enp : np (fOrderS z X (pi : Nat) q o d) = np X := by
    show (sE _ 21 0).length = (sE X 21 0).length
    rw [(u 21 (by decide)).2.2]
  have epc : ∀ q' : Int, fPc (fOrderS z X (pi : Nat) q o d) q' = fPc X q' := fPc_congr ((u 21 (by decide)).2.2 0)
  obtain ⟨i1, i2, i3, i4, i5, i6, i7, i8, i9, i10, i11, i12, i13, i14⟩ := hI
  have oL : ∀ j : Nat, j < sn X 8 → fOL X j < sn X 26 := fun j hj => by
    have := (i6 j hj).2.2.2.2.2.1
    unfold fOL; omega
  have dL : ∀ j : Nat, j < sn X 8 → fDelL X j < sn X 27 := fun j hj => by
    have := (i6 j hj).2.2.2.2.2.2.1
    unfold fDelL; omega
  have eOL : ∀ j : Nat, j < sn X 8 → fOL (fOrderS z X (pi : Nat) q o d) j = fOL X j := fun j hj => by unfold fOL; rw [old 5 j (by omega)]
  have eDL : ∀ j : Nat, j < sn X 8 → fDelL (fOrderS z X (pi : Nat) q o d) j = fDelL X j := fun j hj => by unfold fDelL; rw [old 6 j (by omega)]
  have nOL : fOL (fOrderS z X (pi : Nat) q o d) (sn X 8) = sn X 26 := by unfold fOL; rw [new 5 (by decide)]; rfl
  have nDL : fDelL (fOrderS z X (pi : Nat) q o d) (sn X 8) = sn X 27 := by unfold fDelL; rw [new 6 (by decide)]; rfl
  have u7 := u 7 (by decide)
  have etl : ∀ j : Nat, j < sn X 8 → fTl (fOrderS z X (pi : Nat) q o d) j = fTl X j := fun j hj =>
    fTl_congr (eOL j hj) (f26 _ (oL j hj)) (fun t _ => ⟨u7.2.1 0 _, u7.2.1 1 _⟩)
  have ntl : fTl (fOrderS z X (pi : Nat) q o d) (sn X 8) = [] := by unfold fTl; rw [nOL, g26]; rfl
  have edv : ∀ j : Nat, j < sn X 8 → fDv (fOrderS z X (pi : Nat) q o d) j = fDv X j := fun j hj => by
    unfold fDv
    rw [eDL j hj, f27 _ (dL j hj)]
    exact List.map_congr_left (fun t _ => by rw [u7.2.1, u7.2.1])
  have ndv : fDv (fOrderS z X (pi : Nat) q o d) (sn X 8) = [] := by unfold fDv; rw [nDL, g27]; rfl
  have ech : ∀ i : Nat, i < sn X 6 → fch (fOrderS z X (pi : Nat) q o d) i = fch X i := fun i hi =>
    fch_congr ((u 6 (by decide)).2.1 3 i) (f26 _ (by have := (i4 i hi).2.2.2.1; omega)) (fun t _ => u7.2.1 0 _)
  have hlt : ∀ i : Nat, i < sn X 6 → ∀ y ∈ fch X i, y < sn X 6 := by
    intro i hi y hy
    obtain ⟨t, ht, rfl⟩ := List.mem_map.mp hy
    have := (i4 i hi).2.2.2.2.2 t ht
    omega
  refine ⟨⟨?_, ?_, ?_, ?_, ?_, ?_, ?_⟩, ⟨?_, (i2.cg (u 2 (by decide)) (u 3 (by decide)) (u 4 (by decide)) (u 5 (by decide)) (u 21 (by decide)) (u 24 (by decide)) (u 25 (by decide)) (Nat.le_refl _)) |> (fun h => ?_), i3.cg (u 0 (by decide)) (u 1 (by decide)) (u 45 (by decide)).1, ?_, ?_, ?_, ?_, ?_, ?_, ?_, ?_, ?_, ?_, i14.cg (u 9 (by decide)) (u 28 (by decide)) (u 48 (by decide))⟩, ?_, ?_⟩
  · have hg := hR.G
    unfold rG at hg ⊢
    rw [m11 5 0 (by decide), m11 8 0 (by decide), (u 0 (by decide)).2.1, (u 0 (by decide)).2.1]
    exact hg
  · exact rM_congr (fun k i => (u 1 (by decide)).2.1 k i) (u 1 (by decide)).1 (fun k i => (g 12 (by decide)).2.1 k i) (g 12 (by decide)).1 hR.M
  · exact rP_congr (fun c k i hc => (u c (by omega)).2.1 k i) (fun c i hc => by
      rcases hc with rfl | rfl | rfl
      · exact (u 21 (by decide)).2.2 i
      · exact (u 24 (by decide)).2.2 i
      · exact (u 25 (by decide)).2.2 i) (fun k i => (g 13 (by decide)).2.1 k i) (fun c i hc => (g c (by omega)).2.2 i) (g 13 (by decide)).1 hR.P
  · exact rL_congr (fun k i _ _ _ => (u 6 (by decide)).2.1 k i) ((u 21 (by decide)).2.2 0) (u 6 (by decide)).1 ech (fun k i _ _ => (g 14 (by decide)).2.1 k i) (fun i => (g 41 (by decide)).2.2 i) (g 14 (by decide)).1 hR.L
  · refine ⟨by rw [mO_n (Or.inl rfl), fO_n8, h15], fun j hj => ?_⟩
    rw [fO_n8] at hj
    by_cases e : j = sn X 8
    · have N : ∀ i : Nat, sT (fOrderS z X (pi : Nat) q o d) 8 i j = sT (fOrderS z X (pi : Nat) q o d) 8 i (sn X 8) := fun i => by rw [e]
      have M : ∀ i : Nat, sT (mOrderS Y (pi : Nat) q o d) 15 i j = sT (mOrderS Y (pi : Nat) q o d) 15 i (sn Y 15) := fun i => by rw [e, h15]
      refine ⟨⟨⟨pi, by rw [enp]; exact hpi, (M 1).trans (mnew 1 (by decide)), ((N 1).trans (new 1 (by decide))).trans (show ((fPc X ((pi : Nat) : Int) : Nat) : Int) = _ by rw [epc])⟩, ?_, ?_, ?_⟩, ⟨⟨0, by decide, (N 7).trans stn, (M 5).trans (mnew 5 (by decide)), ?_, ?_⟩, ?_, ?_, ?_, ?_⟩, ⟨?_, ?_⟩, ?_, ?_⟩
      · exact ((M 2).trans (mnew 2 (by decide))).trans ((N 2).trans (new 2 (by decide))).symm
      · exact ((M 3).trans (mnew 3 (by decide))).trans ((N 3).trans (new 3 (by decide))).symm
      · exact ((M 4).trans (mnew 4 (by decide))).trans ((N 4).trans (new 4 (by decide))).symm
      · rw [if_neg (by omega)]; exact (M 13).trans (mnew 13 (by decide))
      · rw [if_neg (by decide)]; exact (M 14).trans (mnew 14 (by decide))
      · exact ((M 8).trans (mnew 8 (by decide))).trans ((N 8).trans (new 8 (by decide))).symm
      · exact ((M 9).trans (mnew 9 (by decide))).trans ((N 9).trans (new 9 (by decide))).symm
      · exact ((M 11).trans (mnew 11 (by decide))).trans ((N 10).trans (new 10 (by decide))).symm
      · exact ((M 12).trans (mnew 12 (by decide))).trans ((N 13).trans (new 13 (by decide))).symm
      · rw [e, ntl]
        unfold mTl mZs
        rw [mln 38 (by omega)]
        rfl
      · rw [e, mln 38 (by omega), mln 39 (by omega)]
      · rw [e, nDL, g27, mln 40 (by omega)]; rfl
      · rw [e, nDL, g27]
        refine (mnew' 15).trans ((mnew 15 (by decide)).trans ?_)
        unfold fDelSum
        rw [nDL, g27]
        rfl
    · have hj : j < sn X 8 := by omega
      obtain ⟨g1, g2, g3, g4⟩ := hR.O.2 j hj
      refine ⟨rOa_congr (fun i _ => old i j (by omega)) ((u 21 (by decide)).2.2 0) (fun i _ => mold i j (by omega)) g1, rOb_congr (fun i _ => old i j (by omega)) (fun i _ => mold i j (by omega)) g2, ⟨?_, ?_⟩, ?_⟩
      · rw [etl j hj, mTl_congr (mlo 38 j (by omega) hj) (mlo 39 j (by omega) hj) (fun x _ => (g 19 (by decide)).2.1 0 _)]
        exact g3.1
      · rw [mlo 38 j (by omega) hj, mlo 39 j (by omega) hj]; exact g3.2
      · exact rD_congr (eDL j hj) (f27 _ (dL j hj)) (fun t _ => ⟨u7.2.1 0 _, u7.2.1 2 _⟩) (mlo 40 j (by omega) hj) (mold 15 j (by omega)) g4
  · intro m hm
    rw [(u 1 (by decide)).1] at hm
    obtain ⟨a1, a2⟩ := hR.Q m hm
    rw [(u 45 (by decide)).2.2, fO_n8]
    refine ⟨a1, fun x => (a2 x).trans ?_⟩
    by_cases e : x.toNat = sn X 8
    · have M5 : sT (mOrderS Y (pi : Nat) q o d) 15 5 x.toNat = 45 := by rw [e, mnew' 5]; exact mnew 5 (by decide)
      rw [M5]
      constructor
      · rintro ⟨b1, b2, -⟩; omega
      · rintro ⟨-, -, b3, -⟩; exact absurd b3 (by decide)
    · rw [mold 5 _ (by omega), mold 10 _ (by omega)]
      constructor
      · rintro ⟨b1, b2, b3, b4⟩; exact ⟨b1, by omega, b3, b4⟩
      · rintro ⟨b1, b2, b3, b4⟩; exact ⟨b1, by omega, b3, b4⟩
  · exact rS_congr (fun x _ => ⟨(u 28 (by decide)).2.2 x, (u 9 (by decide)).2.1 0 x⟩) (fun c i hc => (g c (by omega)).2.2 i) (g 35 (by decide)).1 hR.S
  · unfold fFix at i1 ⊢
    obtain ⟨x1, x2, x3, x4, x5, x6, x7, x8, x9, x10, x11, x12, x13, x14⟩ := i1
    have f0 := u 0 (by decide)
    rw [f0.1, f0.2.1, f0.2.1, f0.2.1, f0.2.1, f0.2.1, (u 20 (by decide)).2.2, (u 21 (by decide)).2.2, (u 22 (by decide)).2.2, (u 1 (by decide)).1, (u 6 (by decide)).1, fO_n8, fO_23, x9, idl_succ]
    exact ⟨x1, x2, x3, x4, x5, x6, x7, x8, rfl, x10, x11, h30, x13, x14⟩
  · obtain ⟨a1, a2, a3, a4, a5, a6⟩ := h
    refine ⟨a1, a2, a3, a4, fun c i hc hi => ?_, a6⟩
    have := a5 c i hc hi
    omega
  · intro l hl
    rw [(u 6 (by decide)).1] at hl
    obtain ⟨a1, ⟨p', a2, a3⟩, a4, a5, a6, a7⟩ := i4 l hl
    rw [(u 6 (by decide)).2.1, (u 6 (by decide)).2.1, (u 6 (by decide)).2.1, (u 6 (by decide)).2.1, (u 6 (by decide)).2.1, fO_n26, f26 _ (by omega)]
    refine ⟨a1, ⟨p', by rw [enp]; exact a2, by rw [epc]; exact a3⟩, a4, by omega, a6, fun t ht => ?_⟩
    rw [u7.2.1]
    exact a7 t ht
  · obtain ⟨a1, a2, a3⟩ := i5
    simp only [iTk, fO_n26, fO_n27, u7.1, u7.2.1, (u 6 (by decide)).1]
    refine ⟨fun i hi t ht => ?_, fun i hi t ht => ?_, a3⟩
    · by_cases e : i = sn X 26
      · rw [e, g26] at ht; cases ht
      · rw [f26 i (by omega)] at ht; exact a1 i (by omega) t ht
    · by_cases e : i = sn X 27
      · rw [e, g27] at ht; cases ht
      · rw [f27 i (by omega)] at ht; exact a2 i (by omega) t ht
  · intro j hj
    rw [fO_n8] at hj
    simp only [enp, epc, fO_n26, fO_n27, (u 6 (by decide)).1, (u 6 (by decide)).2.1]
    by_cases e : j = sn X 8
    · have N : ∀ i : Nat, sT (fOrderS z X (pi : Nat) q o d) 8 i j = sT (fOrderS z X (pi : Nat) q o d) 8 i (sn X 8) := fun i => by rw [e]
      rw [N 0, N 1, N 2, N 3, N 4, N 5, N 6, N 7, N 8, N 9, N 10, N 11, N 12, N 13, new 0 (by decide), new 1 (by decide), new 2 (by decide), new 3 (by decide), new 4 (by decide), new 5 (by decide), new 6 (by decide), new 7 (by decide), new 8 (by decide), new 9 (by decide), new 10 (by decide), new 11 (by decide), new 12 (by decide), new 13 (by decide)]
      refine ⟨by show ((sn X 8 : Nat) : Int) = j; rw [e], ⟨pi, hpi, rfl⟩, hok.1, hok.2.1, hok.2.2, ⟨Int.natCast_nonneg _, ?_⟩, ⟨Int.natCast_nonneg _, ?_⟩, ⟨0, by decide, rfl⟩, (by decide : (0 : Int) ≤ 0 ∧ (0 : Int) ≤ 100), (by decide : (0 : Int) ≤ 0 ∧ (0 : Int) ≤ 3), ⟨(by decide : (-1 : Int) ≤ -1), ?_⟩, (by decide : (0 : Int) ≤ 0 ∧ (0 : Int) ≤ 5000), (by decide : (0 : Int) ≤ 0 ∧ (0 : Int) ≤ 5000), fun _ => Or.inl rfl, fun _ => ⟨rfl, rfl, rfl⟩, fun _ _ => rfl, fun w => absurd (show (0 : Int) ≤ -1 from w) (by decide)⟩
      · show ((sn X 26 : Nat) : Int) < ((sn X 26 + 1 : Nat) : Int); omega
      · show ((sn X 27 : Nat) : Int) < ((sn X 27 + 1 : Nat) : Int); omega
      · show (-1 : Int) < (sn X 6 : Nat); omega
    · have hj : j < sn X 8 := by omega
      obtain ⟨a0, a1, a2, a3, a4, a5, a6, a7⟩ := i6 j hj
      simp only [old _ j e]
      exact ⟨a0, a1, a2, a3, a4, by omega, by omega, a7⟩
  · obtain ⟨a1, a2, a3, a4⟩ := i7
    have u6 := u 6 (by decide)
    simp only [iSp, fO_n8, u6.1, u6.2.1]
    have b5 : ∀ j : Nat, j < sn X 8 + 1 → (j = sn X 8 ∧ sT (fOrderS z X (pi : Nat) q o d) 8 5 j = (sn X 26 : Nat)) ∨ (j < sn X 8 ∧ sT (fOrderS z X (pi : Nat) q o d) 8 5 j = sT X 8 5 j ∧ sT X 8 5 j < sn X 26) := fun j hj => by
      by_cases e : j = sn X 8
      · exact Or.inl ⟨e, by rw [e]; exact new 5 (by decide)⟩
      · have := (i6 j (by omega)).2.2.2.2.2.1
        exact Or.inr ⟨by omega, old 5 j e, this.2⟩
    have b6 : ∀ j : Nat, j < sn X 8 + 1 → (j = sn X 8 ∧ sT (fOrderS z X (pi : Nat) q o d) 8 6 j = (sn X 27 : Nat)) ∨ (j < sn X 8 ∧ sT (fOrderS z X (pi : Nat) q o d) 8 6 j = sT X 8 6 j ∧ sT X 8 6 j < sn X 27) := fun j hj => by
      by_cases e : j = sn X 8
      · exact Or.inl ⟨e, by rw [e]; exact new 6 (by decide)⟩
      · have := (i6 j (by omega)).2.2.2.2.2.2.1
        exact Or.inr ⟨by omega, old 6 j e, this.2⟩
    refine ⟨fun x y hx hy h => ?_, fun x y hx hy h => ?_, fun l y hl hy h => ?_, a4⟩
    · rcases b5 x hx with ⟨c1, c2⟩ | ⟨c1, c2, c3⟩ <;> rcases b5 y hy with ⟨d1, d2⟩ | ⟨d1, d2, d3⟩
      · omega
      · omega
      · omega
      · exact a1 x y c1 d1 (by omega)
    · rcases b6 x hx with ⟨c1, c2⟩ | ⟨c1, c2, c3⟩ <;> rcases b6 y hy with ⟨d1, d2⟩ | ⟨d1, d2, d3⟩
      · omega
      · omega
      · omega
      · exact a2 x y c1 d1 (by omega)
    · have h3 := (i4 l hl).2.2.2.1
      rcases b5 y hy with ⟨c1, c2⟩ | ⟨c1, c2, c3⟩
      · omega
      · rw [old 7 y (by omega)]
        exact a3 l y hl c1 (by omega)
  · have hq : ∀ j : Nat, j ≠ sn X 8 → (fQok (fOrderS z X (pi : Nat) q o d) j ↔ fQok X j) := fun j hj => by
      unfold fQok fOpL
      rw [old 1 j hj, old 9 j hj, old 8 j hj, (u 2 (by decide)).2.1, (u 25 (by decide)).2.2]
    obtain ⟨a1, a2, a3⟩ := i8
    simp only [iQw, (u 1 (by decide)).1, (u 1 (by decide)).2.1, (u 45 (by decide)).2.2, fO_n8]
    refine ⟨fun m hm x hx => ?_, fun m hm => ?_, a3⟩
    · obtain ⟨b1, b2, b3, b4⟩ := a1 m hm x hx
      rw [old 7 _ (by omega), hq _ (by omega)]
      exact ⟨b1, by omega, b3, b4⟩
    · obtain ⟨b1, b2⟩ := a2 m hm
      refine ⟨b1, fun h => ?_⟩
      obtain ⟨d1, d2, d3, d4⟩ := b2 h
      rw [old 7 _ (by omega), hq _ (by omega)]
      exact ⟨d1, by omega, d3, d4⟩
  · intro l hl
    rw [(u 6 (by decide)).1] at hl
    obtain ⟨a1, a2, a3⟩ := i9 l hl
    have bn : fPr z (fOrderS z X (pi : Nat) q o d) (sn X 8) = false := decide_eq_false (by rw [stn]; omega)
    have bo : ∀ j : Nat, j < sn X 8 → fPr z (fOrderS z X (pi : Nat) q o d) j = fPr z X j := fun j hj => by unfold fPr; rw [old 7 j (by omega)]
    rw [(u 6 (by decide)).2.1, (u 6 (by decide)).2.1, (u 6 (by decide)).2.1, fO_n8, isum_succ, isum_succ, bn, ntl, ndv, pl_nil, if_neg (by decide)]
    have c1 : isum (sn X 8) (fun j => if fPr z (fOrderS z X (pi : Nat) q o d) j = true then pl (fTl (fOrderS z X (pi : Nat) q o d) j) l else 0) = isum (sn X 8) (fun o => if fPr z X o = true then pl (fTl X o) l else 0) := isum_cg (fun j hj => by rw [bo j hj, etl j hj])
    have c2 : isum (sn X 8) (fun j => (if fPr z (fOrderS z X (pi : Nat) q o d) j = true then 0 else pl (fTl (fOrderS z X (pi : Nat) q o d) j) l) + pl (fDv (fOrderS z X (pi : Nat) q o d) j) l) = isum (sn X 8) (fun o => (if fPr z X o = true then 0 else pl (fTl X o) l) + pl (fDv X o) l) := isum_cg (fun j hj => by rw [bo j hj, etl j hj, edv j hj])
    rw [c1, c2]
    exact ⟨by omega, a2, by omega⟩
  · obtain ⟨a1, a2, a3, a4, a5, a6⟩ := i10
    have cn : fCoO z (fOrderS z X (pi : Nat) q o d) (sn X 8) = 0 := by
      unfold fCoO fUw fStg
      rw [stn, nDL, g27, decide_eq_false (by omega), decide_eq_false (by omega)]
      rfl
    have co : ∀ j : Nat, j < sn X 8 → fCoO z (fOrderS z X (pi : Nat) q o d) j = fCoO z X j := fun j hj => by
      unfold fCoO fUw fStg
      rw [old 7 j (by omega), old 10 j (by omega), eDL j hj, f27 _ (dL j hj)]
      simp only [u7.2.1]
    have cs : fSumO z (fOrderS z X (pi : Nat) q o d) (sn X 8 + 1) = fSumO z X (sn X 8) := by
      unfold fSumO fSumL
      rw [List.range_succ, List.map_append, List.sum_append, List.map_cons, List.map_nil, List.sum_cons, List.sum_nil, cn, (u 6 (by decide)).1, (u 0 (by decide)).2.1, List.map_congr_left (fun j hj => co j (List.mem_range.mp hj))]
      simp only [(u 6 (by decide)).2.1]
      omega
    refine ⟨fun l hl => ?_, fun j hj => ?_, fun t ht => ?_, ?_, ?_, ?_⟩
    · rw [(u 6 (by decide)).1] at hl
      rw [(u 6 (by decide)).2.1]
      exact a1 l hl
    · rw [fO_n8] at hj
      by_cases e : j = sn X 8
      · rw [e, new 10 (by decide)]; exact Int.le_refl _
      · rw [old 10 j e]; exact a2 j (by omega)
    · rw [u7.1] at ht
      rw [u7.2.1]
      exact a3 t ht
    · rw [(u 0 (by decide)).2.1]; exact a4
    · rw [fO_n8, cs, (u 0 (by decide)).2.1, (u 0 (by decide)).2.1]; exact a5
    · rw [(u 0 (by decide)).2.1, (u 0 (by decide)).2.1]; omega
  · intro j hj hb t ht
    rw [fO_n8] at hj
    by_cases e : j = sn X 8
    · rw [e] at hb
      have := of_decide_eq_true hb
      rw [stn] at this
      omega
    · have hj : j < sn X 8 := by omega
      rw [eOL j hj, f26 _ (oL j hj)] at ht
      have hb : fPr z X j = true := by
        unfold fPr at hb ⊢
        rw [old 7 j e] at hb
        exact hb
      have e7 : fLotOf (fOrderS z X (pi : Nat) q o d) t = fLotOf X t := by unfold fLotOf; rw [u7.2.1]
      have hl := i5.1 (fOL X j) (oL j hj) t ht
      have hl := (i5.2.2 t.toNat (by omega)).1
      rw [e7, h_cg (u 6 (by decide)), tHeld_cg (h := fh X) (N := sn X 6) (fun _ _ => rfl) ech hlt 100 _ (by unfold fLotOf; omega)]
      exact i11 j hj hb t ht
  · intro j hj
    rw [fO_n8] at hj
    by_cases e : j = sn X 8
    · rw [e, nOL, nDL, g26, g27]
      exact ⟨fun _ => rfl, fun _ => rfl, Nat.zero_le _⟩
    · have hj : j < sn X 8 := by omega
      rw [eOL j hj, eDL j hj, f26 _ (oL j hj), f27 _ (dL j hj), old 7 j e]
      exact i12 j hj
  · obtain ⟨a1, a2, a3, a4, a5⟩ := i13
    simp only [iCn, fO_n8, (u 0 (by decide)).2.1, (u 28 (by decide)).2.2, (u 6 (by decide)).1]
    refine ⟨a1, a2, by omega, ?_, a5⟩
    rw [isum_succ, stn, if_neg (by omega), isum_cg (g := fun o => if sT X 8 7 o = (z 4 : Nat) ∨ sT X 8 7 o = (z 5 : Nat) then (1 : Int) else 0) (fun j hj => by rw [old 7 j (by omega)])]
    omega
  · obtain ⟨s1, s2, s3, s4, s5⟩ := hS
    refine ⟨?_, ?_, ?_, fun j hj => ?_, ?_⟩
    · unfold mFix at s1 ⊢
      obtain ⟨x1, x2, x3, x4, x5, x6, x7, x8, x9, x10, x11, x12, x13, x14, x15⟩ := s1
      rw [m11 1 0 (by decide), m11 2 0 (by decide), m11 3 0 (by decide), m11 4 0 (by decide), m11 6 0 (by decide), m11 7 0 (by decide), (g 30 (by decide)).2.2, (g 31 (by decide)).2.2, (g 32 (by decide)).2.2, mO_33, (g 12 (by decide)).1, (g 13 (by decide)).1, (g 14 (by decide)).1, mO_n (Or.inl rfl), x11, idl_succ]
      exact ⟨x1, x2, x3, x4, x5, x6, x7, x8, x9, x10, rfl, x12, x13, x14, by omega⟩
    · simp only [(g 13 (by decide)).1, (g 13 (by decide)).2.1, (g 36 (by decide)).2.2, (g 37 (by decide)).2.2, (g 46 (by decide)).1]
      exact s2
    · simp only [(g 14 (by decide)).1, (g 14 (by decide)).2.1, (g 41 (by decide)).2.2]
      exact s3
    · rw [mO_n (Or.inl rfl)] at hj
      rw [(g 12 (by decide)).1]
      by_cases e : j = sn Y 15
      · have M : ∀ i : Nat, sT (mOrderS Y (pi : Nat) q o d) 15 i j = sT (mOrderS Y (pi : Nat) q o d) 15 i (sn Y 15) := fun i => by rw [e]
        rw [M 0, M 6, M 7, M 16, M 10, M 5, mnew 0 (by decide), mnew 6 (by decide), mnew 7 (by decide), mnew 16 (by decide), mnew 10 (by decide), mnew 5 (by decide)]
        refine ⟨?_, ?_, ?_, ?_, (show rg (0 : Int) from ⟨by decide, by decide⟩), fun w => absurd (show (45 : Int) = 119 from w) (by decide)⟩
        · show ((sn Y 15 : Nat) : Int) = j; omega
        · show ((sn Y 38 : Nat) : Int) = j; omega
        · show ((sn Y 39 : Nat) : Int) = j; omega
        · show ((sn Y 40 : Nat) : Int) = j; omega
      · rw [mold 0 j e, mold 6 j e, mold 7 j e, mold 16 j e, mold 10 j e, mold 5 j e]
        exact s4 j (by omega)
    · rw [(g 36 (by decide)).1, (g 37 (by decide)).1, (g 41 (by decide)).1, (g 13 (by decide)).1, (g 14 (by decide)).1, mO_n (c := 38) (by omega), mO_n (c := 39) (by omega), mO_n (c := 40) (by omega), mO_n (c := 15) (by omega)]
      exact ⟨t1, t2, t3, by omega, by omega, by omega⟩
  · obtain ⟨b1, b2, b3⟩ := hB
    refine ⟨by rw [(g 19 (by decide)).1]; exact b1, fun j hj => by rw [(g 19 (by decide)).2.1]; exact b2 j hj, fun j hj x hx => ?_⟩
    rw [mO_n (Or.inl rfl)] at hj
    rw [(g 19 (by decide)).1]
    by_cases e : j = sn X 8
    · rw [e, mln 39 (by omega)] at hx; cases hx
    · rw [mlo 39 j (by omega) (by omega)] at hx
      exact b3 j (by omega) x hx
end ZBO2
