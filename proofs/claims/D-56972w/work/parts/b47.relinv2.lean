/-! THE SIMULATION: release, the invariants behind the taking out: all of them, with the order under way -/
set_option maxRecDepth 100000
section ZBX2
variable {z : Nat → Nat} {k o : Nat} {X : hS}
theorem relInv (hz : zInj z) (hI : iAll z k X) (hD : iDj X) (ho : o < sn X 8) (hst : sT X 8 7 o = (z 1 : Nat)) (hmd : (sT X 8 1 o).toNat % 2 = 0) (hF : relF X o (sE X 26 (fOL X o)).length (fRelU X o)) : iAll z k (fRv z X o 2) := by
  obtain ⟨i1, i2, i3, i4, i5, i6, i7, i8, i9, i10, i11, i12, i13, i14⟩ := hI
  obtain ⟨r5, r4, r6, r72, r10, rs, r7⟩ := hF
  have u := fun (c : Nat) (h : c ≠ 6 ∧ c ≠ 7 ∧ c ≠ 8) => fRv_ceq (z := z) (X := X) (o := o) (s := 2) h
  have v6 : ∀ q i : Nat, q ≠ 4 ∧ q ≠ 5 ∧ q ≠ 6 → sT (fRv z X o 2) 6 q i = sT X 6 q i := fun q i h => fRv_T (by omega) (by omega) (by omega)
  have v7 : ∀ q i : Nat, q ≠ 2 → sT (fRv z X o 2) 7 q i = sT X 7 q i := fun q i h => fRv_T (by omega) (by omega) (by omega)
  have v8 : ∀ q i : Nat, ¬ ((q = 7 ∨ q = 8 ∨ q = 10) ∧ i = o) → sT (fRv z X o 2) 8 q i = sT X 8 q i := fun q i h => fRv_T (by omega) (by omega) (by omega)
  have st2 : ∀ (q s : Nat), s ≠ 1 → s ≠ 2 → s < 6 → (sT (fRv z X o 2) 8 7 q = (z s : Nat) ↔ sT X 8 7 q = (z s : Nat)) := fun q s h1 h2 h6 => by
    by_cases e : q = o
    · rw [e, fRv_87, hst]
      constructor
      · intro w
        exact absurd (hz 2 s (by decide) (by omega) (by omega)) (fun e => h2 e.symm)
      · intro w
        exact absurd (hz 1 s (by decide) (by omega) (by omega)) (fun e => h1 e.symm)
    · rw [v8 7 q (by omega)]
  have z12 : z 1 ≠ z 2 := fun e => absurd (hz 1 2 (by decide) (by decide) e) (by decide)
  have z13 : z 1 ≠ z 3 := fun e => absurd (hz 1 3 (by decide) (by decide) e) (by decide)
  have epc : ∀ x : Int, fPc (fRv z X o 2) x = fPc X x := fPc_congr fRv_E
  have enp : np (fRv z X o 2) = np X := by
    show (sE _ 21 0).length = (sE X 21 0).length
    rw [fRv_E]
  have eOL : ∀ q : Nat, fOL (fRv z X o 2) q = fOL X q := fun q => congrArg Int.toNat (v8 5 q (by omega))
  have eDL : ∀ q : Nat, fDelL (fRv z X o 2) q = fDelL X q := fun q => congrArg Int.toNat (v8 6 q (by omega))
  have eTl : ∀ q : Nat, fTl (fRv z X o 2) q = fTl X q := fun q => fTl_congr (eOL q) fRv_E (fun t _ => ⟨v7 0 _ (by decide), v7 1 _ (by decide)⟩)
  have eDv : ∀ q : Nat, fDv (fRv z X o 2) q = fDv X q := fun q => by
    unfold fDv
    rw [eDL, fRv_E]
    exact List.map_congr_left (fun t _ => by rw [v7 0 _ (by decide), v7 1 _ (by decide)])
  have b1 : fPr z X o = true := decide_eq_true hst
  have b0 : fPr z (fRv z X o 2) o = false := decide_eq_false (by rw [fRv_87]; omega)
  have bo : ∀ q : Nat, q ≠ o → fPr z (fRv z X o 2) q = fPr z X q := fun q hq => by unfold fPr; rw [v8 7 q (by omega)]
  have pT : ∀ l : Nat, plT X o (sE X 26 (fOL X o)).length l = pl (fTl X o) l := fun l => by
    unfold plT
    rw [List.take_of_length_le (by unfold fTl; rw [List.length_map]; exact Nat.le_refl _)]
  have e5 : ∀ l : Nat, sT (fRv z X o 2) 6 5 l = sT X 6 5 l - pl (fTl X o) l := fun l => by rw [fRv_U (by omega), r5, pT]
  have e4 : ∀ l : Nat, sT (fRv z X o 2) 6 4 l = sT X 6 4 l - pl (fTl X o) l := fun l => by rw [fRv_U (by omega), r4, pT]
  have e6 : ∀ l : Nat, sT (fRv z X o 2) 6 6 l = sT (fRelU X o) 6 6 l := fun l => fRv_U (by omega)
  have e10 : sT (fRv z X o 2) 8 10 o = sT (fRelU X o) 8 10 o := fRv_U (by omega)
  refine ⟨?_, i2.cg (u 2 (by decide)) (u 3 (by decide)) (u 4 (by decide)) (u 5 (by decide)) (u 21 (by decide)) (u 24 (by decide)) (u 25 (by decide)) (by rw [fRv_n]; exact Nat.le_refl _), i3.cg (u 0 (by decide)) (u 1 (by decide)) fRv_n, ?_, ?_, ?_, ?_, ?_, ?_, ?_, ?_, ?_, ?_, i14.cg (u 9 (by decide)) (u 28 (by decide)) (u 48 (by decide))⟩
  · unfold fFix at i1 ⊢
    have f0 := u 0 (by decide)
    rw [f0.1, f0.2.1, f0.2.1, f0.2.1, f0.2.1, f0.2.1, fRv_E, fRv_E, fRv_E, fRv_E, fRv_n, fRv_n, fRv_n]
    exact i1
  · unfold iLo at i4 ⊢
    simp only [fRv_n, fRv_E, enp, epc, v6 0 _ (by decide), v6 1 _ (by decide), v6 2 _ (by decide), v6 3 _ (by decide), v6 7 _ (by decide), v7 0 _ (by decide)]
    exact i4
  · unfold iTk at i5 ⊢
    simp only [fRv_n, fRv_E, v7 0 _ (by decide), v7 1 _ (by decide)]
    exact i5
  · intro q hq
    rw [fRv_n] at hq
    obtain ⟨a0, a1, a2, a3, a4, a5, a6, a7, a8, a9, a10, a11, a12, a13, a14, a15, a16⟩ := i6 q hq
    simp only [epc, enp, fRv_n, v6 1 _ (by decide)]
    rw [v8 0 q (by omega), v8 1 q (by omega), v8 2 q (by omega), v8 3 q (by omega), v8 4 q (by omega), v8 5 q (by omega), v8 6 q (by omega), v8 9 q (by omega), v8 11 q (by omega), v8 12 q (by omega), v8 13 q (by omega)]
    by_cases e : q = o
    · subst e
      rw [fRv_87, fRv_88]
      refine ⟨a0, a1, a2, a3, a4, a5, a6, ⟨2, by decide, rfl⟩, by omega, a9, a10, a11, a12, fun w => by omega, fun w => ?_, fun _ _ => a15 (by rw [hst]; intro w; exact absurd (hz 1 4 (by decide) (by decide) (by omega)) (by decide)) (by rw [hst]; intro w; exact absurd (hz 1 5 (by decide) (by decide) (by omega)) (by decide)), a16⟩
      rcases w with w | w
      · exact absurd (hz 2 0 (by decide) (by decide) (by omega)) (by decide)
      · exact absurd (hz 2 1 (by decide) (by decide) (by omega)) (by decide)
    · rw [v8 7 q (by omega), v8 8 q (by omega), v8 10 q (by omega)]
      exact ⟨a0, a1, a2, a3, a4, a5, a6, a7, a8, a9, a10, a11, a12, a13, a14, a15, a16⟩
  · obtain ⟨a1, a2, a3, a4⟩ := i7
    have w5 : ∀ q : Nat, sT (fRv z X o 2) 8 5 q = sT X 8 5 q := fun q => v8 5 q (by omega)
    have w6 : ∀ q : Nat, sT (fRv z X o 2) 8 6 q = sT X 8 6 q := fun q => v8 6 q (by omega)
    simp only [iSp, fRv_n, w5, w6, v6 3 _ (by decide), st2 _ 4 (by decide) (by decide) (by decide), st2 _ 5 (by decide) (by decide) (by decide)]
    exact ⟨a1, a2, a3, a4⟩
  · have hq : ∀ q : Nat, q ≠ o → (fQok (fRv z X o 2) q ↔ fQok X q) := fun q hq => by
      unfold fQok fOpL
      rw [v8 1 q (by omega), v8 9 q (by omega), v8 8 q (by omega), (u 2 (by decide)).2.1, fRv_E]
    obtain ⟨a1, a2, a3⟩ := i8
    simp only [iQw, fRv_n, fRv_E, (u 1 (by decide)).2.1]
    refine ⟨fun m hm x hx => ?_, fun m hm => ?_, a3⟩
    · obtain ⟨d1, d2, d3, d4⟩ := a1 m hm x hx
      have hne : x.toNat ≠ o := fun w => by rw [w, hst] at d3; omega
      rw [hq _ hne, v8 7 _ (by omega)]
      exact ⟨d1, d2, d3, d4⟩
    · obtain ⟨d1, d2⟩ := a2 m hm
      refine ⟨d1, fun h => ?_⟩
      obtain ⟨e1, e2, e3, e4⟩ := d2 h
      have hne : (sT X 1 7 m).toNat ≠ o := fun w => by rw [w, hst] at e3; omega
      rw [hq _ hne, v8 7 _ (by omega)]
      exact ⟨e1, e2, e3, e4⟩
  · intro l hl
    rw [fRv_n] at hl
    obtain ⟨a1, a2, a3⟩ := i9 l hl
    have c1 : isum (sn X 8) (fun q => if fPr z (fRv z X o 2) q = true then pl (fTl (fRv z X o 2) q) l else 0) = isum (sn X 8) (fun q => if fPr z X q = true then pl (fTl X q) l else 0) + - pl (fTl X o) l := by
      refine isum_up (j := o) ?_ (fun q hq => ?_) ho
      · show (if fPr z (fRv z X o 2) o = true then pl (fTl (fRv z X o 2) o) l else 0) = (if fPr z X o = true then pl (fTl X o) l else 0) + - pl (fTl X o) l
        rw [b0, b1, if_neg (by decide), if_pos rfl]; omega
      · show (if fPr z (fRv z X o 2) q = true then pl (fTl (fRv z X o 2) q) l else 0) = _
        rw [bo q hq, eTl]
    have c2 : isum (sn X 8) (fun q => (if fPr z (fRv z X o 2) q = true then 0 else pl (fTl (fRv z X o 2) q) l) + pl (fDv (fRv z X o 2) q) l) = isum (sn X 8) (fun q => (if fPr z X q = true then 0 else pl (fTl X q) l) + pl (fDv X q) l) + pl (fTl X o) l := by
      refine isum_up (j := o) ?_ (fun q hq => ?_) ho
      · show (if fPr z (fRv z X o 2) o = true then 0 else pl (fTl (fRv z X o 2) o) l) + pl (fDv (fRv z X o 2) o) l = ((if fPr z X o = true then 0 else pl (fTl X o) l) + pl (fDv X o) l) + pl (fTl X o) l
        rw [b0, b1, if_neg (by decide), if_pos rfl, eTl, eDv]; omega
      · show (if fPr z (fRv z X o 2) q = true then 0 else pl (fTl (fRv z X o 2) q) l) + pl (fDv (fRv z X o 2) q) l = _
        rw [bo q hq, eTl, eDv]
    rw [fRv_n, c1, c2, e5, e4, v6 2 l (by decide)]
    exact ⟨by omega, by omega, by omega⟩
  · obtain ⟨a1, a2, a3, a4, a5, a6⟩ := i10
    have h10 : sT X 8 10 o = 0 := ((i6 o ho).2.2.2.2.2.2.2.2.2.2.2.2.2.2.1 (Or.inr hst)).2.2
    have dl : ∀ q : Nat, q < sn X 8 → ∀ t ∈ sE X 27 (fDelL X q), sT (fRv z X o 2) 7 2 t.toNat = sT X 7 2 t.toNat := fun q hq t ht => by
      rw [fRv_U (by omega)]
      exact r7 t.toNat (fun w hw => hD o q ho hq w hw t ht)
    have co : ∀ q : Nat, q < sn X 8 → fCoO z (fRv z X o 2) q = fCoO z X q + (if q = o then sT (fRelU X o) 8 10 o else 0) := fun q hq => by
      unfold fCoO
      rw [eDL, fRv_E, List.map_congr_left (fun t ht => dl q hq t ht)]
      by_cases e : q = o
      · subst e
        have f1 : fUw z (fRv z X q 2) q = true := by
          unfold fUw fStg
          rw [decide_eq_true fRv_87]; rfl
        have f2 : fUw z X q = false := by
          unfold fUw fStg
          rw [hst, decide_eq_false (by omega), decide_eq_false (by omega)]; rfl
        rw [f1, f2, if_pos rfl, if_neg (by decide), if_pos rfl, e10]; omega
      · have f1 : fUw z (fRv z X o 2) q = fUw z X q := by
          unfold fUw fStg
          rw [v8 7 q (by omega)]
        rw [f1, if_neg e, v8 10 q (by omega)]; omega
    have cs : fSumO z (fRv z X o 2) (sn X 8) = fSumO z X (sn X 8) := by
      have e1 : isum (sn X 8) (fCoO z (fRv z X o 2)) = isum (sn X 8) (fCoO z X) + sT (fRelU X o) 8 10 o := by
        have h1 : isum (sn X 8) (fCoO z (fRv z X o 2)) = isum (sn X 8) (fun q => fCoO z X q + (if q = o then sT (fRelU X o) 8 10 o else 0)) := isum_cg co
        rw [h1]
        exact isum_up (j := o) (by show fCoO z X o + (if o = o then _ else _) = _; rw [if_pos rfl]) (fun q hq => by show fCoO z X q + (if q = o then _ else _) = _; rw [if_neg hq]; omega) ho
      have e2 : isum (sn X 6) (fun l => sT (fRv z X o 2) 6 6 l) = isum (sn X 6) (fun l => sT (fRelU X o) 6 6 l) := isum_cg (fun l _ => e6 l)
      have e3 : fSumO z (fRv z X o 2) (sn X 8) = sT X 0 9 0 + isum (sn X 6) (fun l => sT (fRv z X o 2) 6 6 l) + isum (sn X 8) (fCoO z (fRv z X o 2)) := by
        unfold fSumO fSumL
        rw [fRv_n, (u 0 (by decide)).2.1]
        rfl
      have e4 : fSumO z X (sn X 8) = sT X 0 9 0 + isum (sn X 6) (fun l => sT X 6 6 l) + isum (sn X 8) (fCoO z X) := rfl
      rw [e3, e4, e1, e2]
      omega
    refine ⟨fun l hl => ?_, fun q hq => ?_, fun t ht => ?_, ?_, ?_, ?_⟩
    · rw [fRv_n] at hl
      rw [e6]; exact (r6 l hl).1
    · rw [fRv_n] at hq
      by_cases e : q = o
      · rw [e, e10]; omega
      · rw [v8 10 q (by omega)]; exact a2 q hq
    · rw [fRv_n] at ht
      rw [fRv_U (by omega)]; exact r72 t ht
    · rw [(u 0 (by decide)).2.1]; exact a4
    · rw [fRv_n, cs, (u 0 (by decide)).2.1, (u 0 (by decide)).2.1]; exact a5
    · rw [(u 0 (by decide)).2.1, (u 0 (by decide)).2.1]; exact a6
  · intro q hq hb t ht
    rw [fRv_n] at hq
    have hne : q ≠ o := fun w => by rw [w, b0] at hb; cases hb
    rw [bo q hne] at hb
    rw [eOL, fRv_E] at ht
    have e7 : fLotOf (fRv z X o 2) t = fLotOf X t := by unfold fLotOf; rw [v7 0 _ (by decide)]
    have eh : fh (fRv z X o 2) = fh X := by funext i; unfold fh; rw [v6 7 i (by decide)]
    have ec : fch (fRv z X o 2) = fch X := by
      funext i
      exact fch_congr (v6 3 i (by decide)) fRv_E (fun t _ => v7 0 _ (by decide))
    rw [e7, eh, ec]
    exact i11 q hq hb t ht
  · intro q hq
    rw [fRv_n] at hq
    obtain ⟨a1, a2, a3⟩ := i12 q hq
    rw [eOL, eDL, fRv_E, fRv_E]
    exact ⟨fun w => a1 ((st2 q 0 (by decide) (by decide) (by decide)).mp w), fun w => a2 (fun w2 => w ((st2 q 5 (by decide) (by decide) (by decide)).mpr w2)), a3⟩
  · obtain ⟨a1, a2, a3, a4, a5⟩ := i13
    simp only [iCn, fRv_n, fRv_E, (u 0 (by decide)).2.1, st2 _ 4 (by decide) (by decide) (by decide), st2 _ 5 (by decide) (by decide) (by decide)]
    exact ⟨a1, a2, a3, a4, a5⟩
end ZBX2
