/-! THE ROOM: its invariants are kept -/
set_option maxRecDepth 100000
/-- only made parts' orders take pieces -/
def iMd (X : hS) : Prop := ∀ o : Nat, o < sn X 8 → sE X 26 (fOL X o) ≠ [] → (sT X 8 1 o).toNat % 2 = 0
/-- never more pieces left than ordered -/
def iPq (X : hS) : Prop := ∀ o : Nat, o < sn X 8 → sT X 8 8 o ≤ sT X 8 2 o
def iRn (z : Nat → Nat) (X : hS) : Prop := iRm z X ∧ iMd X ∧ iPq X
section ZD1
variable {z : Nat → Nat} {k o l : Nat} {X X' X2 : hS}
theorem comps_at (hI : iPt k X) {p : Nat} (hp : p < np X) (hev : fPc X p % 2 = 0) {v : Int} (hv : sT X 8 1 o = v) (hvp : v = fPc X p) : fComps X o = sE X 24 (fPc X p / 2) ∧ fPc X p / 2 < sn X 2 := by
  rcases hI.pc hp with ⟨q1, q2, q3⟩ | ⟨q1, q2, q3⟩
  · refine ⟨?_, q2⟩
    unfold fComps
    rw [hv, hvp, Int.toNat_natCast, (hI.2.2.2.1 _ q2).1, Int.toNat_natCast]
  · omega
theorem cOk.gW (h : gW z X X') (hP : iPt k X) (hL : iLo X) (hO : iOr z X) (hT : iTk X) (ho : o < sn X 8) (hmd : (sT X 8 1 o).toNat % 2 = 0) (e26 : sE X' 26 (fOL X o) = sE X 26 (fOL X o)) (hc : cOk X o) : cOk X' o := by
  obtain ⟨cs, c1, c2, c3, c4, c5, c6⟩ := hc
  obtain ⟨p, hp, e1⟩ := (hO o ho).2.1
  have hev : fPc X p % 2 = 0 := by rw [e1, Int.toNat_natCast] at hmd; exact hmd
  obtain ⟨ec, hi2⟩ := comps_at (o := o) hP hp hev e1 rfl
  have e1' : sT X' 8 1 o = (fPc X p : Nat) := by rw [h.2.2.1.2 1 o ho (by decide), e1]
  have ec' : fComps X' o = sE X' 24 (fPc X p / 2) := by
    unfold fComps
    rw [e1', Int.toNat_natCast, h.2.2.2.2.1.2 7 _ hi2 (Or.inr rfl), (hP.2.2.2.1 _ hi2).1, Int.toNat_natCast]
  obtain ⟨ys, hy⟩ := h.2.2.2.2.2.2.2.1 _ hi2
  have hj : ∀ c ∈ cs, c.1.toNat < sn X 4 := fun c hcs => by
    have h1 : c.1 ∈ fComps X o := c2.subset (List.mem_map_of_mem hcs)
    rw [ec] at h1
    have := hP.2.2.2.2.2.1 _ hi2 c.1 h1
    omega
  have h5 := (hO o ho).2.2.2.2.2.1
  refine ⟨cs, ?_, ?_, fun c hcs => ?_, c4, fun c hcs => ?_, c6⟩
  · rw [c1]
    unfold fTl
    rw [h.oL ho, e26]
    refine List.map_congr_left (fun t ht => ?_)
    have ht2 := hT.1 (fOL X o) (by unfold fOL; omega) t ht
    rw [h.2.1.2 0 t.toNat (by omega) (by decide), h.2.1.2 1 t.toNat (by omega) (by decide)]
  · rw [ec', hy, ← ec]
    exact c2.trans (List.sublist_append_left _ _)
  · obtain ⟨d1, d2, d3⟩ := c3 c hcs
    refine ⟨d1, fun e he => ?_, by rw [h.2.2.1.2 2 o ho (by decide)]; exact d3⟩
    obtain ⟨l, l1, l2, l3, l4⟩ := d2 e he
    exact ⟨l, Nat.lt_of_lt_of_le l1 h.1.1, l2, by rw [fPnum_gW h hL hP l1, l3, h.2.2.2.1.2 0 _ (hj c hcs)], l4⟩
  · obtain ⟨w, w1, w2, w3⟩ := c5 c hcs
    exact ⟨w, Nat.lt_of_lt_of_le w1 h.1.1, by rw [fPnum_gW h hL hP w1, w2, h.2.2.2.1.2 0 _ (hj c hcs)], w3⟩
theorem iRn.same (h : sameW X X') (hP : iPt k X) (hL : iLo X) (hO : iOr z X) (hT : iTk X) (hR : iRn z X) : iRn z X' := by
  obtain ⟨⟨hD, hLt, hC⟩, hM, hPq⟩ := hR
  have g : gW z X X' := h.gW
  obtain ⟨⟨a1, a2⟩, ⟨b1, b2⟩, ⟨c1, c2⟩, -, -, -, -, p2⟩ := h
  have eOL : ∀ q : Nat, fOL X' q = fOL X q := fun q => congrArg Int.toNat (c2 5 q (by decide))
  have eDL : ∀ q : Nat, fDelL X' q = fDelL X q := fun q => congrArg Int.toNat (c2 6 q (by decide))
  have ePr : ∀ q : Nat, fPr z X' q = fPr z X q := fun q => by unfold fPr; rw [c2 7 q (by decide)]
  refine ⟨⟨fun o q ho hq t ht u hu => ?_, fun l hl => ?_, fun o ho hne => ?_⟩, fun o ho hne => ?_, fun o ho => ?_⟩
  · rw [c1] at ho hq
    rw [eOL, p2 26 _ (by decide)] at ht
    rw [eDL, p2 27 _ (by decide)] at hu
    exact hD o q ho hq t ht u hu
  · rw [a1] at hl
    rw [a2 1 l (by decide), a2 3 l (by decide), a2 2 l (by decide), p2 26 _ (by decide)]
    rcases hLt l hl with w | ⟨w1, w2, o, w3, w4, w5, w6, w7, w8⟩
    · exact Or.inl w
    · exact Or.inr ⟨w1, w2, o, by omega, by rw [c2 13 o (by decide)]; exact w4, by rw [c2 5 o (by decide)]; exact w5, by rw [c2 1 o (by decide)]; exact w6, by rw [c2 2 o (by decide)]; exact w7, by rw [ePr]; exact w8⟩
  · rw [c1] at ho
    rw [eOL, p2 26 _ (by decide)] at hne
    exact (hC o ho hne).gW g hP hL hO hT ho (hM o ho hne) (p2 26 _ (by decide))
  · rw [c1] at ho
    rw [eOL, p2 26 _ (by decide)] at hne
    rw [c2 1 o (by decide)]
    exact hM o ho hne
  · rw [c1] at ho
    rw [c2 8 o (by decide), c2 2 o (by decide)]
    exact hPq o ho
theorem ffr.sameW (h : ffr X X') : sameW X X' := by
  obtain ⟨h1, h2, h3⟩ := h
  exact ⟨⟨h1 6 (by decide), fun j l _ => h2 6 j l (by decide)⟩, ⟨h1 7 (by decide), fun j l _ => h2 7 j l (by decide)⟩, ⟨h1 8 (by decide), fun j l _ => h2 8 j l (by decide)⟩, ⟨h1 4 (by decide), fun j l => h2 4 j l (by decide)⟩, ⟨h1 2 (by decide), fun j l _ => h2 2 j l (by decide)⟩, ⟨h1 3 (by decide), fun l => h2 3 0 l (by decide)⟩, h3 21 0 (by decide), fun c i hc => h3 c i (by rcases hc with rfl | rfl | rfl <;> decide)⟩
/-- what a call makes of both -/
def gRn (z : Nat → Nat) (X X' : hS) : Prop := gW z X X' ∧ iRn z X'
theorem gRn.same (h : sameW X X') (hP : iPt k X) (hL : iLo X) (hO : iOr z X) (hT : iTk X) (hR : iRn z X) : gRn z X X' := ⟨h.gW, hR.same h hP hL hO hT⟩
/-- what the model does behind it changes nothing -/
theorem gRn.fr (h : gRn z X X') (hf : ffr X' X2) (hI : iAll z k X') : gRn z X X2 := by
  obtain ⟨h1, h2⟩ := h
  exact ⟨h1.trans (ffr.sameW hf).gW, h2.same (ffr.sameW hf) hI.pt hI.lo hI.or hI.tk⟩
end ZD1
