/-! THE SIMULATION: an order is finished: its pieces are a lot; Foundrymark's invariants -/
set_option maxRecDepth 100000
section ZBY1
variable {z : Nat → Nat} {k o : Nat} {X : hS}
def fFiB (z : Nat → Nat) (X : hS) (o : Nat) : hS := sset (fAdd (sset (sset X 8 7 o (z 4 : Nat)) 8 11 o (sT X 0 6 0)) (sT X 8 1 o).toNat (sT X 8 8 o) (sT X 8 10 o) (fOL X o)) 8 13 o (sn X 6)
def fFiA (z : Nat → Nat) (X : hS) (o : Nat) : hS := sset (sset (sset X 8 7 o (z 4 : Nat)) 8 11 o (sT X 0 6 0)) 0 9 0 (sT X 0 9 0 + sT X 8 10 o)
theorem fFi_def : fFinish z X o = if 0 < sT X 8 8 o then fFiB z X o else fFiA z X o := rfl
theorem fFiB_sv {v : Int} : fFiB z (sset X 8 7 o v) o = fFiB z X o := by
  unfold fFiB
  have e1 : sT (sset X 8 7 o v) 0 6 0 = sT X 0 6 0 := rfl
  have e2 : sT (sset X 8 7 o v) 8 1 o = sT X 8 1 o := rfl
  have e3 : sT (sset X 8 7 o v) 8 8 o = sT X 8 8 o := rfl
  have e4 : sT (sset X 8 7 o v) 8 10 o = sT X 8 10 o := rfl
  have e5 : fOL (sset X 8 7 o v) o = fOL X o := rfl
  have e6 : sn (sset X 8 7 o v) 6 = sn X 6 := rfl
  rw [e1, e2, e3, e4, e5, e6, sset_sset]
theorem fFiA_sv {v : Int} : fFiA z (sset X 8 7 o v) o = fFiA z X o := by
  unfold fFiA
  have e1 : sT (sset X 8 7 o v) 0 6 0 = sT X 0 6 0 := rfl
  have e2 : sT (sset X 8 7 o v) 0 9 0 = sT X 0 9 0 := rfl
  have e4 : sT (sset X 8 7 o v) 8 10 o = sT X 8 10 o := rfl
  rw [e1, e2, e4, sset_sset]
theorem fB_c {c : Nat} (h : c ≠ 6 ∧ c ≠ 8 ∧ c ≠ 22) : ceq X (fFiB z X o) c := by
  unfold fFiB fAdd kFLot
  exact ((((((((((ceq.refl.set h.2.1).set h.2.1).snw h.1).set h.1).set h.1).set h.1).set h.1).set h.1).set h.1).ssE h.2.2).set h.2.1
theorem fB_n6 : sn (fFiB z X o) 6 = sn X 6 + 1 := rfl
theorem fB_n8 : sn (fFiB z X o) 8 = sn X 8 := rfl
theorem fB_22 : sE (fFiB z X o) 22 0 = sE X 22 0 ++ [(sn X 6 : Int)] := rfl
theorem fB_6 {j i : Nat} (h : i ≠ sn X 6) : sT (fFiB z X o) 6 j i = sT X 6 j i := by
  have e : sn (sset (sset X 8 7 o (z 4 : Nat)) 8 11 o (sT X 0 6 0)) 6 = sn X 6 := rfl
  unfold fFiB fAdd kFLot
  simp only [sT_ssE, sT_set, sT_w, e]
  simp [h]
theorem fB_6n {j : Nat} (hj : j < 8) : sT (fFiB z X o) 6 j (sn X 6) = match j with
  | 0 => (sn X 6 : Nat) | 1 => ((sT X 8 1 o).toNat : Nat) | 2 => sT X 8 8 o | 3 => (fOL X o : Nat) | 4 => sT X 8 8 o | 6 => sT X 8 10 o | _ => 0 := by
  have e : sn (sset (sset X 8 7 o (z 4 : Nat)) 8 11 o (sT X 0 6 0)) 6 = sn X 6 := rfl
  unfold fFiB fAdd kFLot
  simp only [sT_ssE, sT_set, sT_w, e]
  match j, hj with
  | 0, _ => rfl
  | 1, _ => rfl
  | 2, _ => rfl
  | 3, _ => rfl
  | 4, _ => rfl
  | 5, _ => rfl
  | 6, _ => rfl
  | 7, _ => rfl
theorem fB_8 {j i : Nat} (h : ¬ ((j = 7 ∨ j = 11 ∨ j = 13) ∧ i = o)) : sT (fFiB z X o) 8 j i = sT X 8 j i := by
  unfold fFiB fAdd kFLot
  rw [sT_set, if_neg (by omega), sT_ssE, sT_set, if_neg (by omega), sT_set, if_neg (by omega), sT_set, if_neg (by omega), sT_set, if_neg (by omega), sT_set, if_neg (by omega), sT_set, if_neg (by omega), sT_w, if_neg (by omega), sT_set, if_neg (by omega), sT_set, if_neg (by omega)]
theorem fB_87' : sT (fFiB z X o) 8 7 o = (z 4 : Nat) := by
  unfold fFiB fAdd kFLot
  simp only [sT_ssE, sT_set, sT_w]
  simp
theorem fB_811 : sT (fFiB z X o) 8 11 o = sT X 0 6 0 := by
  unfold fFiB fAdd kFLot
  simp only [sT_ssE, sT_set, sT_w]
  simp
theorem fB_813 : sT (fFiB z X o) 8 13 o = (sn X 6 : Nat) := by
  unfold fFiB
  rw [sT_set, if_pos ⟨rfl, rfl, rfl⟩]
theorem finInvB (hz : zInj z) (hI : iAll z k X) (ho : o < sn X 8) (hst : sT X 8 7 o = (z 2 : Nat)) (hmd : (sT X 8 1 o).toNat % 2 = 0) (h88 : 0 < sT X 8 8 o) (hq : ∀ m : Nat, m < sn X 1 → (o : Int) ∉ sE X 45 m) : iAll z k (fFiB z X o) := by
  obtain ⟨i1, i2, i3, i4, i5, i6, i7, i8, i9, i10, i11, i12, i13, i14⟩ := hI
  have u := fun (c : Nat) (h : c ≠ 6 ∧ c ≠ 8 ∧ c ≠ 22) => fB_c (z := z) (X := X) (o := o) h
  have u7 := u 7 (by decide)
  have u26 := u 26 (by decide)
  have u27 := u 27 (by decide)
  have old := fun (j i : Nat) (h : i ≠ sn X 6) => fB_6 (z := z) (o := o) (j := j) h
  have new := fun (j : Nat) (h : j < 8) => fB_6n (z := z) (X := X) (o := o) h
  have v8 : ∀ q i : Nat, ¬ ((q = 7 ∨ q = 11 ∨ q = 13) ∧ i = o) → sT (fFiB z X o) 8 q i = sT X 8 q i := fun q i h => fB_8 h
  have z24 : z 2 ≠ z 4 := fun e => absurd (hz 2 4 (by decide) (by decide) e) (by decide)
  have z25 : z 2 ≠ z 5 := fun e => absurd (hz 2 5 (by decide) (by decide) e) (by decide)
  have z45 : z 4 ≠ z 5 := fun e => absurd (hz 4 5 (by decide) (by decide) e) (by decide)
  have z42 : z 4 ≠ z 2 := fun e => z24 e.symm
  have z43 : z 4 ≠ z 3 := fun e => absurd (hz 4 3 (by decide) (by decide) e) (by decide)
  have z23 : z 2 ≠ z 3 := fun e => absurd (hz 2 3 (by decide) (by decide) e) (by decide)
  have st2 : ∀ (q s : Nat), s ≠ 2 → s ≠ 4 → s < 6 → (sT (fFiB z X o) 8 7 q = (z s : Nat) ↔ sT X 8 7 q = (z s : Nat)) := fun q s h2 h4 h6 => by
    by_cases e : q = o
    · rw [e, fB_87', hst]
      constructor
      · intro w
        exact absurd (hz 4 s (by decide) (by omega) (by omega)) (fun e => h4 e.symm)
      · intro w
        exact absurd (hz 2 s (by decide) (by omega) (by omega)) (fun e => h2 e.symm)
    · rw [v8 7 q (by omega)]
  have enp : np (fFiB z X o) = np X := by
    show (sE _ 21 0).length = (sE X 21 0).length
    rw [(u 21 (by decide)).2.2]
  have epc : ∀ x : Int, fPc (fFiB z X o) x = fPc X x := fPc_congr ((u 21 (by decide)).2.2 0)
  have eOL : ∀ q : Nat, fOL (fFiB z X o) q = fOL X q := fun q => congrArg Int.toNat (v8 5 q (by omega))
  have eDL : ∀ q : Nat, fDelL (fFiB z X o) q = fDelL X q := fun q => congrArg Int.toNat (v8 6 q (by omega))
  have eTl : ∀ q : Nat, fTl (fFiB z X o) q = fTl X q := fun q => fTl_congr (eOL q) (u26.2.2 _) (fun t _ => ⟨u7.2.1 0 _, u7.2.1 1 _⟩)
  have eDv : ∀ q : Nat, fDv (fFiB z X o) q = fDv X q := fun q => by
    unfold fDv
    rw [eDL, u27.2.2]
    exact List.map_congr_left (fun t _ => by rw [u7.2.1, u7.2.1])
  have ePr : ∀ q : Nat, fPr z (fFiB z X o) q = fPr z X q := fun q => decide_eq_decide.mpr (st2 q 1 (by decide) (by decide) (by decide))
  have o5 := (i6 o ho).2.2.2.2.2.1
  have e5 : sT X 8 5 o = (fOL X o : Nat) := (Int.toNat_of_nonneg o5.1).symm
  obtain ⟨p0, hp0, hp1⟩ := (i6 o ho).2.1
  have hy : ((sT X 8 1 o).toNat : Int) = sT X 8 1 o := by rw [hp1]; rfl
  have h88b := (i6 o ho).2.2.2.2.2.2.2.2.1
  have hsep : ∀ i : Nat, i < sn X 6 → sT X 6 3 i ≠ (fOL X o : Nat) := by
    intro i hi e
    rcases i7.2.2.1 i o hi ho (by omega) with q | q <;> omega
  have ech : ∀ i : Nat, i < sn X 6 → fch (fFiB z X o) i = fch X i := fun i hi => fch_congr (old 3 i (by omega)) (u26.2.2 _) (fun t _ => u7.2.1 0 _)
  have hlt : ∀ i : Nat, i < sn X 6 → ∀ y ∈ fch X i, y < sn X 6 := by
    intro i hi y hy
    obtain ⟨t, ht, rfl⟩ := List.mem_map.mp hy
    have := (i4 i hi).2.2.2.2.2 t ht
    omega
  have tl6 : ∀ q : Nat, q < sn X 8 → ∀ t ∈ sE X 26 (fOL X q), 0 ≤ sT X 7 0 t.toNat ∧ sT X 7 0 t.toNat < sn X 6 := fun q hq' t ht => by
    have h5 := (i6 q hq').2.2.2.2.2.1
    have := i5.1 (fOL X q) (by unfold fOL; omega) t ht
    exact (i5.2.2 t.toNat (by omega)).1
  have cn1 : isum (sn X 8) (fun q => if sT (fFiB z X o) 8 7 q = (z 4 : Nat) ∨ sT (fFiB z X o) 8 7 q = (z 5 : Nat) then (1 : Int) else 0) = isum (sn X 8) (fun q => if sT X 8 7 q = (z 4 : Nat) ∨ sT X 8 7 q = (z 5 : Nat) then (1 : Int) else 0) + 1 := by
    refine isum_up (j := o) ?_ (fun q hne => ?_) ho
    · show (if sT (fFiB z X o) 8 7 o = (z 4 : Nat) ∨ sT (fFiB z X o) 8 7 o = (z 5 : Nat) then (1 : Int) else 0) = (if sT X 8 7 o = (z 4 : Nat) ∨ sT X 8 7 o = (z 5 : Nat) then (1 : Int) else 0) + 1
      rw [fB_87', hst, if_pos (Or.inl rfl), if_neg (by omega)]; rfl
    · show (if sT (fFiB z X o) 8 7 q = (z 4 : Nat) ∨ sT (fFiB z X o) 8 7 q = (z 5 : Nat) then (1 : Int) else 0) = _
      rw [v8 7 q (by omega)]
  have h30 := i1.2.2.2.2.2.2.2.2.2.2.2.1
  have h100 : sn X 6 + 1 ≤ 100 := by
    have h1 := i13.2.2.2.1
    have h2 := isum_le (n := sn X 8) (f := fun q => if sT (fFiB z X o) 8 7 q = (z 4 : Nat) ∨ sT (fFiB z X o) 8 7 q = (z 5 : Nat) then (1 : Int) else 0) (fun i _ => by
      show (if sT (fFiB z X o) 8 7 i = (z 4 : Nat) ∨ sT (fFiB z X o) 8 7 i = (z 5 : Nat) then (1 : Int) else 0) ≤ 1
      split <;> decide)
    have h60 := i13.2.1
    omega
  refine ⟨?_, i2.cg (u 2 (by decide)) (u 3 (by decide)) (u 4 (by decide)) (u 5 (by decide)) (u 21 (by decide)) (u 24 (by decide)) (u 25 (by decide)) (by rw [(u 1 (by decide)).1]; exact Nat.le_refl _), i3.cg (u 0 (by decide)) (u 1 (by decide)) (u 45 (by decide)).1, ?_, ?_, ?_, ?_, ?_, ?_, ?_, ?_, ?_, ?_, i14.cg (u 9 (by decide)) (u 28 (by decide)) (u 48 (by decide))⟩
  · unfold fFix at i1 ⊢
    obtain ⟨x1, x2, x3, x4, x5, x6, x7, x8, x9, x10, x11, x12, x13, x14⟩ := i1
    have f0 := u 0 (by decide)
    rw [f0.1, f0.2.1, f0.2.1, f0.2.1, f0.2.1, f0.2.1, (u 20 (by decide)).2.2, (u 21 (by decide)).2.2, fB_22, (u 23 (by decide)).2.2, (u 1 (by decide)).1, fB_n6, fB_n8, x8, idl_succ]
    exact ⟨x1, x2, x3, x4, x5, x6, x7, rfl, x9, x10, h100, x12, x13, x14⟩
  · intro l hl
    rw [fB_n6] at hl
    rw [u26.1]
    by_cases e : l = sn X 6
    · have N : ∀ i : Nat, sT (fFiB z X o) 6 i l = sT (fFiB z X o) 6 i (sn X 6) := fun i => by rw [e]
      have n3 : sT (fFiB z X o) 6 3 l = (fOL X o : Nat) := (N 3).trans (new 3 (by decide))
      refine ⟨((N 0).trans (new 0 (by decide))).trans (show ((sn X 6 : Nat) : Int) = l by rw [e]), ⟨p0, by rw [enp]; exact hp0, ((N 1).trans (new 1 (by decide))).trans (show (((sT X 8 1 o).toNat : Nat) : Int) = _ by rw [hy, hp1, epc])⟩, ?_, ?_, ?_, ?_⟩
      · rw [show sT (fFiB z X o) 6 2 l = sT X 8 8 o from (N 2).trans (new 2 (by decide))]; omega
      · rw [n3]; omega
      · exact Or.inl ((N 7).trans (new 7 (by decide)))
      · rw [n3, Int.toNat_natCast, u26.2.2]
        intro t ht
        rw [u7.2.1]
        have := tl6 o ho t ht
        omega
    · obtain ⟨a1, ⟨p', a2, a3⟩, a4, a5, a6, a7⟩ := i4 l (by omega)
      rw [old 0 l e, old 1 l e, old 2 l e, old 3 l e, old 7 l e, u26.2.2]
      refine ⟨a1, ⟨p', by rw [enp]; exact a2, by rw [epc]; exact a3⟩, a4, a5, a6, fun t ht => ?_⟩
      rw [u7.2.1]
      exact a7 t ht
  · obtain ⟨a1, a2, a3⟩ := i5
    simp only [iTk, u26.1, u26.2.2, u27.1, u27.2.2, u7.1, u7.2.1, fB_n6]
    refine ⟨a1, a2, fun t ht => ?_⟩
    have := a3 t ht
    omega
  · intro q hq'
    rw [fB_n8] at hq'
    obtain ⟨a0, a1, a2, a3, a4, a5, a6, a7, a8, a9, a10, a11, a12, a13, a14, a15, a16⟩ := i6 q hq'
    simp only [epc, enp, u26.1, u27.1, fB_n6]
    rw [v8 0 q (by omega), v8 1 q (by omega), v8 2 q (by omega), v8 3 q (by omega), v8 4 q (by omega), v8 5 q (by omega), v8 6 q (by omega), v8 8 q (by omega), v8 9 q (by omega), v8 10 q (by omega), v8 12 q (by omega)]
    by_cases e : q = o
    · subst e
      rw [fB_87', fB_811, fB_813]
      have now := i3.2.1
      refine ⟨a0, a1, a2, a3, a4, a5, a6, ⟨4, by decide, rfl⟩, a8, a9, ⟨by omega, by omega⟩, now, a12, fun w => by omega, fun w => ?_, fun w => absurd rfl w, fun _ => ?_⟩
      · rcases w with w | w
        · exact absurd (hz 4 0 (by decide) (by decide) (by omega)) (by decide)
        · exact absurd (hz 4 1 (by decide) (by decide) (by omega)) (by decide)
      · rw [Int.toNat_natCast]
        exact (new 1 (by decide)).trans hy
    · rw [v8 7 q (by omega), v8 11 q (by omega), v8 13 q (by omega)]
      refine ⟨a0, a1, a2, a3, a4, a5, a6, a7, a8, a9, by omega, a11, a12, a13, a14, a15, fun h => ?_⟩
      rw [old 1 _ (by omega)]
      exact a16 h
  · obtain ⟨a1, a2, a3, a4⟩ := i7
    have w5 : ∀ q : Nat, sT (fFiB z X o) 8 5 q = sT X 8 5 q := fun q => v8 5 q (by omega)
    have w6 : ∀ q : Nat, sT (fFiB z X o) 8 6 q = sT X 8 6 q := fun q => v8 6 q (by omega)
    simp only [iSp, fB_n8, fB_n6, w5, w6]
    have b3 : ∀ l : Nat, l < sn X 6 + 1 → (l = sn X 6 ∧ sT (fFiB z X o) 6 3 l = (fOL X o : Nat)) ∨ (l < sn X 6 ∧ sT (fFiB z X o) 6 3 l = sT X 6 3 l ∧ sT X 6 3 l ≠ (fOL X o : Nat)) := fun l hl => by
      by_cases e : l = sn X 6
      · exact Or.inl ⟨e, by rw [e]; exact new 3 (by decide)⟩
      · exact Or.inr ⟨by omega, old 3 l e, hsep l (by omega)⟩
    refine ⟨a1, a2, fun l y hl hy' h => ?_, fun x y hx hy' h => ?_⟩
    · rcases b3 l hl with ⟨c1, c2⟩ | ⟨c1, c2, c3⟩
      · have : y = o := a1 y o hy' ho (by omega)
        rw [this, fB_87']
        exact Or.inl rfl
      · have hy2 := a3 l y c1 hy' (by omega)
        have hne : y ≠ o := fun w => by rw [w] at h; omega
        rw [v8 7 y (by omega)]
        exact hy2
    · rcases b3 x hx with ⟨c1, c2⟩ | ⟨c1, c2, c3⟩ <;> rcases b3 y hy' with ⟨d1, d2⟩ | ⟨d1, d2, d3⟩
      · omega
      · omega
      · omega
      · exact a4 x y c1 d1 (by omega)
  · have hqk : ∀ q : Nat, fQok (fFiB z X o) q ↔ fQok X q := fun q => by
      unfold fQok fOpL
      rw [v8 1 q (by omega), v8 9 q (by omega), v8 8 q (by omega), (u 2 (by decide)).2.1, (u 25 (by decide)).2.2]
    obtain ⟨a1, a2, a3⟩ := i8
    simp only [iQw, hqk, (u 1 (by decide)).1, (u 1 (by decide)).2.1, (u 45 (by decide)).2.2, fB_n8]
    refine ⟨fun m hm x hx => ?_, fun m hm => ?_, a3⟩
    · obtain ⟨d1, d2, d3, d4⟩ := a1 m hm x hx
      have hne : x.toNat ≠ o := fun w => hq m hm (by
        have : x = (o : Int) := by omega
        rw [← this]; exact hx)
      rw [v8 7 _ (by omega)]
      exact ⟨d1, d2, d3, d4⟩
    · obtain ⟨d1, d2⟩ := a2 m hm
      refine ⟨d1, fun h => ?_⟩
      obtain ⟨e1, e2, e3, e4⟩ := d2 h
      have hne : (sT X 1 7 m).toNat ≠ o := fun w => by rw [w, hst] at e3; omega
      rw [v8 7 _ (by omega)]
      exact ⟨e1, e2, e3, e4⟩
  · intro l hl
    rw [fB_n6] at hl
    simp only [fB_n8, ePr, eTl, eDv]
    by_cases e : l = sn X 6
    · have N : ∀ i : Nat, sT (fFiB z X o) 6 i l = sT (fFiB z X o) 6 i (sn X 6) := fun i => by rw [e]
      have n2 : sT (fFiB z X o) 6 2 l = sT X 8 8 o := (N 2).trans (new 2 (by decide))
      have n4 : sT (fFiB z X o) 6 4 l = sT X 8 8 o := (N 4).trans (new 4 (by decide))
      have n5 : sT (fFiB z X o) 6 5 l = 0 := (N 5).trans (new 5 (by decide))
      have zt : ∀ q : Nat, q < sn X 8 → pl (fTl X q) l = 0 := fun q hq' => pl_zero (fun x hx => by
        obtain ⟨t, ht, rfl⟩ := List.mem_map.mp hx
        have := tl6 q hq' t ht
        show sT X 7 0 t.toNat ≠ _
        omega)
      have zd : ∀ q : Nat, q < sn X 8 → pl (fDv X q) l = 0 := fun q hq' => pl_zero (fun x hx => by
        obtain ⟨t, ht, rfl⟩ := List.mem_map.mp hx
        have h6 := (i6 q hq').2.2.2.2.2.2.1
        have := i5.2.1 (fDelL X q) (by unfold fDelL; omega) t ht
        have := (i5.2.2 t.toNat (by omega)).1
        show sT X 7 0 t.toNat ≠ _
        omega)
      rw [n2, n4, n5, isum_z0 (fun q hq' => by
        show (if fPr z X q = true then pl (fTl X q) l else 0) = 0
        rw [zt q hq']; split <;> rfl), isum_z0 (fun q hq' => by
        show (if fPr z X q = true then 0 else pl (fTl X q) l) + pl (fDv X q) l = 0
        rw [zt q hq', zd q hq']; split <;> rfl)]
      exact ⟨rfl, by omega, by omega⟩
    · rw [old 5 l e, old 4 l e, old 2 l e]
      exact i9 l (by omega)
  · obtain ⟨a1, a2, a3, a4, a5, a6⟩ := i10
    have co : ∀ q : Nat, q < sn X 8 → fCoO z (fFiB z X o) q = fCoO z X q + (if q = o then - sT X 8 10 o else 0) := fun q hq' => by
      unfold fCoO
      rw [eDL, u27.2.2, v8 10 q (by omega)]
      simp only [u7.2.1]
      by_cases e : q = o
      · subst e
        have f1 : fUw z (fFiB z X q) q = false := by
          unfold fUw fStg
          rw [fB_87', decide_eq_false (by omega), decide_eq_false (by omega)]; rfl
        have f2 : fUw z X q = true := by
          unfold fUw fStg
          rw [decide_eq_true hst]; rfl
        rw [f1, f2, if_pos rfl, if_neg (by decide), if_pos rfl]; omega
      · have f1 : fUw z (fFiB z X o) q = fUw z X q := by
          unfold fUw fStg
          rw [v8 7 q (by omega)]
        rw [f1, if_neg e]; omega
    have cs : fSumO z (fFiB z X o) (sn X 8) = fSumO z X (sn X 8) := by
      have e1 : isum (sn X 8) (fCoO z (fFiB z X o)) = isum (sn X 8) (fCoO z X) + - sT X 8 10 o := by
        have h1 : isum (sn X 8) (fCoO z (fFiB z X o)) = isum (sn X 8) (fun q => fCoO z X q + (if q = o then - sT X 8 10 o else 0)) := isum_cg co
        rw [h1]
        exact isum_up (j := o) (by show fCoO z X o + (if o = o then _ else _) = _; rw [if_pos rfl]) (fun q hq => by show fCoO z X q + (if q = o then _ else _) = _; rw [if_neg hq]; omega) ho
      have e2 : isum (sn X 6 + 1) (fun l => sT (fFiB z X o) 6 6 l) = isum (sn X 6) (fun l => sT X 6 6 l) + sT X 8 10 o := by
        rw [isum_succ, isum_cg (fun l hl => old 6 l (by omega))]
        exact congrArg (fun x => isum (sn X 6) (fun l => sT X 6 6 l) + x) (new 6 (by decide))
      have e3 : fSumO z (fFiB z X o) (sn X 8) = sT X 0 9 0 + isum (sn X 6 + 1) (fun l => sT (fFiB z X o) 6 6 l) + isum (sn X 8) (fCoO z (fFiB z X o)) := by
        unfold fSumO fSumL
        rw [fB_n6, (u 0 (by decide)).2.1]
        rfl
      have e4 : fSumO z X (sn X 8) = sT X 0 9 0 + isum (sn X 6) (fun l => sT X 6 6 l) + isum (sn X 8) (fCoO z X) := rfl
      rw [e3, e4, e1, e2]
      omega
    refine ⟨fun l hl => ?_, fun q hq' => ?_, fun t ht => ?_, ?_, ?_, ?_⟩
    · rw [fB_n6] at hl
      by_cases e : l = sn X 6
      · rw [e, show sT (fFiB z X o) 6 6 (sn X 6) = sT X 8 10 o from new 6 (by decide)]; exact a2 o ho
      · rw [old 6 l e]; exact a1 l (by omega)
    · rw [v8 10 q (by omega)]; exact a2 q hq'
    · rw [u7.1] at ht
      rw [u7.2.1]; exact a3 t ht
    · rw [(u 0 (by decide)).2.1]; exact a4
    · rw [fB_n8, cs, (u 0 (by decide)).2.1, (u 0 (by decide)).2.1]; exact a5
    · rw [(u 0 (by decide)).2.1, (u 0 (by decide)).2.1]; exact a6
  · intro q hq' hb t ht
    rw [ePr] at hb
    rw [eOL, u26.2.2] at ht
    have e7 : fLotOf (fFiB z X o) t = fLotOf X t := by unfold fLotOf; rw [u7.2.1]
    have hl := tl6 q hq' t ht
    rw [e7, tHeld_cg (h := fh X) (N := sn X 6) (fun i hi => by unfold fh; rw [old 7 i (by omega)]) ech hlt 100 _ (by unfold fLotOf; omega)]
    exact i11 q hq' hb t ht
  · intro q hq'
    obtain ⟨a1, a2, a3⟩ := i12 q hq'
    rw [eOL, eDL, u26.2.2, u27.2.2]
    exact ⟨fun w => a1 ((st2 q 0 (by decide) (by decide) (by decide)).mp w), fun w => a2 (fun w2 => w ((st2 q 5 (by decide) (by decide) (by decide)).mpr w2)), a3⟩
  · obtain ⟨a1, a2, a3, a4, a5⟩ := i13
    refine ⟨by rw [(u 0 (by decide)).2.1]; exact a1, by rw [(u 0 (by decide)).2.1]; exact a2, by rw [(u 0 (by decide)).2.1, fB_n8]; exact a3, ?_, fun x hx => by rw [(u 28 (by decide)).2.2, (u 0 (by decide)).2.1]; exact a5 x hx⟩
    rw [fB_n6, fB_n8, cn1, (u 0 (by decide)).2.1]
    push_cast
    omega
end ZBY1
