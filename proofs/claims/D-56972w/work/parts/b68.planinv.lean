/-! THE SIMULATION: behind a delivery's plan all is as before -/
set_option maxRecDepth 100000
section ZCB5
variable {z : Nat → Nat} {k o m l p : Nat} {X Y T U : hS}
theorem plG.ceq (h : plG X T) {c : Nat} (hc : c ≠ 7 ∧ c ≠ 27) : ceq X T c := ⟨h.1 c hc, fun j i => h.2.2.2.2.1 c j i hc, fun i => h.2.2.2.1 c i hc.1 (by omega)⟩
theorem plG.mfr (h : plG X T) : mfr X T := by
  have e : ∀ c : Nat, mcl c → c ≠ 7 ∧ c ≠ 27 := fun c hc => ⟨by rintro rfl; exact absurd hc (by decide), by rintro rfl; exact absurd hc (by decide)⟩
  exact ⟨fun c hc => (h.ceq (e c hc)).1, fun c j i hc _ => (h.ceq (e c hc)).2.1 j i, fun c i hc => (h.ceq (e c hc)).2.2 i, Nat.le_of_eq (h.ceq (c := 46) (by decide)).1.symm, fun i _ => (h.ceq (c := 46) (by decide)).2.2 i⟩
theorem plG.tk26 (h : plG X T) (hI : iAll z k X) {i : Nat} (hi : i < sn X 26) : ∀ t ∈ sE X 26 i, ∀ j : Nat, sT T 7 j t.toNat = sT X 7 j t.toNat := fun t ht j => by
  have := hI.tk.1 i hi t ht
  exact h.2.2.2.2.2.1 j t.toNat (by omega)
theorem plG.tk27 (h : plG X T) (hI : iAll z k X) {i : Nat} (hi : i < sn X 27) : ∀ t ∈ sE X 27 i, ∀ j : Nat, sT T 7 j t.toNat = sT X 7 j t.toNat := fun t ht j => by
  have := hI.tk.2.1 i hi t ht
  exact h.2.2.2.2.2.1 j t.toNat (by omega)
theorem plG.oL (h : plG X T) (hI : iAll z k X) (ho : o < sn X 8) : fOL T o = fOL X o ∧ fOL X o < sn X 26 ∧ fDelL T o = fDelL X o ∧ fDelL X o < sn X 27 := by
  have h5 := (hI.or o ho).2.2.2.2.2.1
  have h6 := (hI.or o ho).2.2.2.2.2.2.1
  refine ⟨congrArg Int.toNat ((h.ceq (by decide)).2.1 5 o), by unfold fOL; omega, congrArg Int.toNat ((h.ceq (by decide)).2.1 6 o), by unfold fDelL; omega⟩
theorem plG.tl (h : plG X T) (hI : iAll z k X) (ho : o < sn X 8) : fTl T o = fTl X o := by
  obtain ⟨a1, a2, -, -⟩ := h.oL hI ho
  exact fTl_congr a1 ((h.ceq (by decide)).2.2 _) (fun t ht => ⟨h.tk26 hI a2 t ht 0, h.tk26 hI a2 t ht 1⟩)
theorem plG.e27 (h : plG X T) {i : Nat} (hi : i < sn X 27) : sE T 27 i = sE X 27 i := h.2.2.2.1 27 i (by decide) (by omega)
theorem plG.dv (h : plG X T) (hI : iAll z k X) (ho : o < sn X 8) : fDv T o = fDv X o := by
  obtain ⟨-, -, a3, a4⟩ := h.oL hI ho
  unfold fDv
  rw [a3, h.e27 a4]
  exact List.map_congr_left (fun t ht => by rw [h.tk27 hI a4 t ht, h.tk27 hI a4 t ht])
theorem plG.inv (h : plG X T) (hI : iAll z k X) : iAll z k T := by
  have u := fun (c : Nat) (hc : c ≠ 7 ∧ c ≠ 27) => h.ceq (c := c) hc
  have tl := fun (q : Nat) (hq : q < sn X 8) => h.tl hI hq
  have dv := fun (q : Nat) (hq : q < sn X 8) => h.dv hI hq
  have oL := fun (q : Nat) (hq : q < sn X 8) => h.oL hI hq
  have hI0 := hI
  obtain ⟨i1, i2, i3, i4, i5, i6, i7, i8, i9, i10, i11, i12, i13, i14⟩ := hI
  obtain ⟨a1, a2, a3, a4, a5, a6, a7, a8, a9⟩ := h
  have h : plG X T := ⟨a1, a2, a3, a4, a5, a6, a7, a8, a9⟩
  have epc : ∀ x : Int, fPc T x = fPc X x := fPc_congr ((u 21 (by decide)).2.2 0)
  have enp : np T = np X := by
    show (sE T 21 0).length = (sE X 21 0).length
    rw [(u 21 (by decide)).2.2]
  refine ⟨?_, i2.cg (u 2 (by decide)) (u 3 (by decide)) (u 4 (by decide)) (u 5 (by decide)) (u 21 (by decide)) (u 24 (by decide)) (u 25 (by decide)) (by rw [(u 1 (by decide)).1]; exact Nat.le_refl _), i3.cg (u 0 (by decide)) (u 1 (by decide)) (u 45 (by decide)).1, ?_, ?_, ?_, i7.cg (u 6 (by decide)) (u 8 (by decide)), i8.cg (u 1 (by decide)) (u 2 (by decide)) (u 8 (by decide)) (u 25 (by decide)) (u 45 (by decide)), ?_, ?_, ?_, ?_, i13.cg (u 0 (by decide)) (u 6 (by decide)).1 (u 8 (by decide)) (u 28 (by decide)), i14.cg (u 9 (by decide)) (u 28 (by decide)) (u 48 (by decide))⟩
  · unfold fFix at i1 ⊢
    have f0 := u 0 (by decide)
    rw [f0.1, f0.2.1, f0.2.1, f0.2.1, f0.2.1, f0.2.1, (u 20 (by decide)).2.2, (u 21 (by decide)).2.2, (u 22 (by decide)).2.2, (u 23 (by decide)).2.2, (u 1 (by decide)).1, (u 6 (by decide)).1, (u 8 (by decide)).1]
    exact i1
  · intro l hl
    rw [(u 6 (by decide)).1] at hl
    obtain ⟨b1, ⟨p, b2, b3⟩, b4, b5, b6, b7⟩ := i4 l hl
    simp only [(u 6 (by decide)).2.1, (u 26 (by decide)).1, (u 26 (by decide)).2.2, epc, enp]
    refine ⟨b1, ⟨p, b2, b3⟩, b4, b5, b6, fun t ht => ?_⟩
    rw [h.tk26 hI0 (by omega) t ht]
    exact b7 t ht
  · obtain ⟨b1, b2, b3⟩ := i5
    refine ⟨fun i hi t ht => ?_, fun i hi t ht => ?_, fun t ht => ?_⟩
    · rw [(u 26 (by decide)).1] at hi
      rw [(u 26 (by decide)).2.2] at ht
      have := b1 i hi t ht
      omega
    · rw [a2] at hi
      by_cases e : i = sn X 27
      · rw [e] at ht
        have := a7 t ht
        omega
      · rw [h.e27 (by omega)] at ht
        have := b2 i (by omega) t ht
        omega
    · rw [(u 6 (by decide)).1]
      by_cases e : t < sn X 7
      · rw [a6 0 t e, a6 1 t e]
        exact b3 t e
      · have := a9 t (by omega) ht
        exact ⟨this.1, this.2.1⟩
  · intro q hq
    rw [(u 8 (by decide)).1] at hq
    have b := i6 q hq
    simp only [(u 8 (by decide)).2.1, (u 6 (by decide)).1, (u 6 (by decide)).2.1, (u 26 (by decide)).1, epc, enp, a2]
    obtain ⟨b0, b1, b2, b3, b4, b5, b6, b7⟩ := b
    exact ⟨b0, b1, b2, b3, b4, b5, by omega, b7⟩
  · intro l hl
    rw [(u 6 (by decide)).1] at hl
    have b := i9 l hl
    have c1 : isum (sn X 8) (fun q => if fPr z T q = true then pl (fTl T q) l else 0) = isum (sn X 8) (fun q => if fPr z X q = true then pl (fTl X q) l else 0) := isum_cg (fun q hq => by unfold fPr; rw [tl q hq, (u 8 (by decide)).2.1])
    have c2 : isum (sn X 8) (fun q => (if fPr z T q = true then 0 else pl (fTl T q) l) + pl (fDv T q) l) = isum (sn X 8) (fun q => (if fPr z X q = true then 0 else pl (fTl X q) l) + pl (fDv X q) l) := isum_cg (fun q hq => by unfold fPr; rw [tl q hq, dv q hq, (u 8 (by decide)).2.1])
    rw [(u 8 (by decide)).1, c1, c2]
    simp only [(u 6 (by decide)).2.1]
    exact b
  · obtain ⟨b1, b2, b3, b4, b5, b6⟩ := i10
    have co : ∀ q : Nat, q < sn X 8 → fCoO z T q = fCoO z X q := fun q hq => by
      obtain ⟨-, -, c3, c4⟩ := oL q hq
      unfold fCoO fUw fStg
      rw [c3, h.e27 c4, (u 8 (by decide)).2.1, (u 8 (by decide)).2.1]
      congr 2
      exact List.map_congr_left (fun t ht => h.tk27 hI0 c4 t ht 2)
    refine ⟨fun l hl => ?_, fun q hq => ?_, fun t ht => ?_, ?_, ?_, ?_⟩
    · rw [(u 6 (by decide)).1] at hl
      rw [(u 6 (by decide)).2.1]; exact b1 l hl
    · rw [(u 8 (by decide)).1] at hq
      rw [(u 8 (by decide)).2.1]; exact b2 q hq
    · by_cases e : t < sn X 7
      · rw [a6 2 t e]; exact b3 t e
      · rw [(a9 t (by omega) ht).2.2]; exact Int.le_refl _
    · rw [(u 0 (by decide)).2.1]; exact b4
    · have e1 : fSumO z T (sn X 8) = fSumO z X (sn X 8) := by
        have ei : isum (sn X 8) (fCoO z T) = isum (sn X 8) (fCoO z X) := isum_cg co
        have el : isum (sn T 6) (fun l => sT T 6 6 l) = isum (sn X 6) (fun l => sT X 6 6 l) := by
          rw [(u 6 (by decide)).1]
          exact isum_cg (fun l _ => (u 6 (by decide)).2.1 6 l)
        have s1 : fSumO z T (sn X 8) = sT T 0 9 0 + isum (sn T 6) (fun l => sT T 6 6 l) + isum (sn X 8) (fCoO z T) := rfl
        have s2 : fSumO z X (sn X 8) = sT X 0 9 0 + isum (sn X 6) (fun l => sT X 6 6 l) + isum (sn X 8) (fCoO z X) := rfl
        rw [s1, s2, ei, el, (u 0 (by decide)).2.1]
      rw [(u 8 (by decide)).1, e1, (u 0 (by decide)).2.1, (u 0 (by decide)).2.1]
      exact b5
    · rw [(u 0 (by decide)).2.1, (u 0 (by decide)).2.1]; exact b6
  · intro q hq hb t ht
    rw [(u 8 (by decide)).1] at hq
    obtain ⟨c1, c2, -, -⟩ := oL q hq
    have hb : fPr z X q = true := by
      unfold fPr at hb ⊢
      rw [(u 8 (by decide)).2.1] at hb
      exact hb
    rw [c1, (u 26 (by decide)).2.2] at ht
    have e7 : fLotOf T t = fLotOf X t := by unfold fLotOf; rw [h.tk26 hI0 c2 t ht]
    have hl := i5.1 (fOL X q) c2 t ht
    have hl := (i5.2.2 t.toNat (by omega)).1
    rw [e7, h.held hI0 (by unfold fLotOf; omega)]
    exact i11 q hq hb t ht
  · intro q hq
    rw [(u 8 (by decide)).1] at hq
    obtain ⟨c1, c2, c3, c4⟩ := oL q hq
    rw [c1, c3, (u 26 (by decide)).2.2, h.e27 c4, (u 8 (by decide)).2.1]
    exact i12 q hq
theorem plG.rel (h : plG X T) (hR : rR z X Y) (hI : iAll z k X) : rR z T Y := by
  have u := fun (c : Nat) (hc : c ≠ 7 ∧ c ≠ 27) => h.ceq (c := c) hc
  refine ⟨?_, ?_, ?_, ?_, ?_, ?_, ?_⟩
  · have hG := hR.G
    unfold rG at hG ⊢
    rw [(u 0 (by decide)).2.1, (u 0 (by decide)).2.1]
    exact hG
  · exact rM_congr (fun j i => (u 1 (by decide)).2.1 j i) (u 1 (by decide)).1 (fun _ _ => rfl) rfl hR.M
  · exact rP_congr (fun c j i hc => (u c (by omega)).2.1 j i) (fun c i hc => (u c (by omega)).2.2 i) (fun _ _ => rfl) (fun _ _ _ => rfl) rfl hR.P
  · have epc : ∀ x : Int, fPc T x = fPc X x := fPc_congr ((u 21 (by decide)).2.2 0)
    have enp : np T = np X := by
      show (sE T 21 0).length = (sE X 21 0).length
      rw [(u 21 (by decide)).2.2]
    refine ⟨by rw [(u 6 (by decide)).1]; exact hR.L.1, fun l hl => ?_⟩
    rw [(u 6 (by decide)).1] at hl
    obtain ⟨⟨p, g1, g2, g3⟩, g4, g5, g6, g7, g8⟩ := hR.L.2 l hl
    have ech : fch T l = fch X l := by
      have h3 := (hI.lo l hl).2.2.2.1
      exact fch_congr ((u 6 (by decide)).2.1 3 l) ((u 26 (by decide)).2.2 _) (fun t ht => h.tk26 hI (by omega) t ht 0)
    simp only [(u 6 (by decide)).2.1, epc, enp, ech]
    exact ⟨⟨p, g1, g2, g3⟩, g4, g5, g6, g7, g8⟩
  · refine ⟨by rw [(u 8 (by decide)).1]; exact hR.O.1, fun q hq => ?_⟩
    rw [(u 8 (by decide)).1] at hq
    obtain ⟨g1, g2, g3, g4⟩ := hR.O.2 q hq
    obtain ⟨-, -, c3, c4⟩ := h.oL hI hq
    refine ⟨rOa_congr (fun j _ => (u 8 (by decide)).2.1 j q) ((u 21 (by decide)).2.2 0) (fun _ _ => rfl) g1, rOb_congr (fun j _ => (u 8 (by decide)).2.1 j q) (fun _ _ => rfl) g2, ⟨by rw [h.tl hI hq]; exact g3.1, g3.2⟩, rD_congr c3 (h.e27 c4) (fun t ht => ⟨h.tk27 hI c4 t ht 0, h.tk27 hI c4 t ht 2⟩) rfl rfl g4⟩
  · exact rQ_congr (fun m _ => (u 45 (by decide)).2.2 m) (u 1 (by decide)).1 (u 8 (by decide)).1 (fun _ _ => ⟨rfl, rfl⟩) hR.Q
  · exact rS_congr (fun x _ => ⟨(u 28 (by decide)).2.2 x, (u 9 (by decide)).2.1 0 x⟩) (fun _ _ _ => rfl) rfl hR.S
end ZCB5
