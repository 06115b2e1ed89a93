/-! WHAT THE CONTRACTS ASK OF FOUNDRYMARK, out of its invariants -/
set_option maxRecDepth 100000
section ZBP
variable {z : Nat → Nat} {k : Nat} {X Y : hS}
theorem iAll.fix (h : iAll z k X) : fFix X := h.1
theorem iAll.pt (h : iAll z k X) : iPt k X := h.2.1
theorem iAll.mc (h : iAll z k X) : iMc X := h.2.2.1
theorem iAll.lo (h : iAll z k X) : iLo X := h.2.2.2.1
theorem iAll.tk (h : iAll z k X) : iTk X := h.2.2.2.2.1
theorem iAll.or (h : iAll z k X) : iOr z X := h.2.2.2.2.2.1
theorem iAll.sp (h : iAll z k X) : iSp z X := h.2.2.2.2.2.2.1
theorem iAll.qw (h : iAll z k X) : iQw z X := h.2.2.2.2.2.2.2.1
theorem iAll.res (h : iAll z k X) : iRes z X := h.2.2.2.2.2.2.2.2.1
theorem iAll.co (h : iAll z k X) : iCo z k X := h.2.2.2.2.2.2.2.2.2.1
theorem iAll.hd (h : iAll z k X) : iHd z X := h.2.2.2.2.2.2.2.2.2.2.1
theorem iAll.em (h : iAll z k X) : iEm z X := h.2.2.2.2.2.2.2.2.2.2.2.1
theorem iAll.cn (h : iAll z k X) : iCn z k X := h.2.2.2.2.2.2.2.2.2.2.2.2.1
theorem iAll.su (h : iAll z k X) : iSu z X := h.2.2.2.2.2.2.2.2.2.2.2.2.2
theorem iAll.W (h : iAll z k X) : fW X := by
  intro i hi
  obtain ⟨g1, g2, g3, g4, g5, g6⟩ := h.lo i hi
  refine ⟨g5, g4.1, fun t ht => ?_⟩
  have h1 := h.tk.1 (sT X 6 3 i).toNat (by omega) t ht
  have h2 := h.tk.2.2 t.toNat (by omega)
  exact ⟨h1.1, h2.1.1, g6 t ht⟩
/-- a part's place and class -/
theorem iPt.pc (h : iPt k X) {p : Nat} (hp : p < np X) : (fPc X p % 2 = 0 ∧ fPc X p / 2 < sn X 2 ∧ sT X 2 0 (fPc X p / 2) = p) ∨ (fPc X p % 2 = 1 ∧ fPc X p / 2 < sn X 3 ∧ sT X 3 0 (fPc X p / 2) = p) := by
  obtain ⟨g1, g2, g3⟩ := h.1 p hp
  unfold pcl pix at g2 g3
  have hm : fPc X p % 2 = 0 ∨ fPc X p % 2 = 1 := by omega
  rcases hm with e | e
  · rw [e] at g2 g3
    exact Or.inl ⟨e, g2, g3⟩
  · rw [e] at g2 g3
    exact Or.inr ⟨e, g2, g3⟩
theorem iLo.pnum (hL : iLo X) (hP : iPt k X) {l : Nat} (hl : l < sn X 6) : ∃ p : Nat, p < np X ∧ sT X 6 1 l = fPc X p ∧ fPnum X l = p := by
  obtain ⟨-, ⟨p, hp, e⟩, -⟩ := hL l hl
  refine ⟨p, hp, e, ?_⟩
  have e2 : fLp X l = fPc X p := by
    unfold fLp
    rw [e]
    exact Int.toNat_natCast _
  unfold fPnum
  rw [e2]
  rcases hP.pc hp with ⟨q1, q2, q3⟩ | ⟨q1, q2, q3⟩
  · rw [q1]
    exact q3
  · rw [q1]
    exact q3
theorem iAll.Tk (h : iAll z k X) : fTk X := fun t ht => (h.tk.2.2 t ht).1.1
theorem np_le (h : iAll z k X) : np X ≤ 12 := h.fix.2.2.2.2.2.2.2.2.2.2.2.2.1
theorem iAll.Av (h : iAll z k X) : fAv X := by
  intro l hl
  obtain ⟨g1, g2, g3, g4, g5, g6⟩ := h.lo l hl
  obtain ⟨r1, r2, r3⟩ := h.res l hl
  obtain ⟨p, hp, e1, e2⟩ := h.lo.pnum h.pt hl
  have hn : ∀ o : Nat, o < sn X 8 → ∀ q ∈ fTl X o, 0 ≤ q.2 := by
    intro o ho q hq
    obtain ⟨t, ht, rfl⟩ := List.mem_map.mp hq
    have hO := h.or o ho
    have h1 := h.tk.1 (fOL X o) (by have := hO.2.2.2.2.2.1; unfold fOL; omega) t ht
    have h2 := h.tk.2.2 t.toNat (by omega)
    show 0 ≤ sT X 7 1 t.toNat
    omega
  have hd : ∀ o : Nat, o < sn X 8 → ∀ q ∈ fDv X o, 0 ≤ q.2 := by
    intro o ho q hq
    obtain ⟨t, ht, rfl⟩ := List.mem_map.mp hq
    have hO := h.or o ho
    have h1 := h.tk.2.1 (fDelL X o) (by have := hO.2.2.2.2.2.2.1; unfold fDelL; omega) t ht
    have h2 := h.tk.2.2 t.toNat (by omega)
    show 0 ≤ sT X 7 1 t.toNat
    omega
  have n1 : 0 ≤ sT X 6 5 l := by
    rw [r1]
    refine isum_nn (fun o ho => ?_)
    by_cases e : fPr z X o = true
    · rw [if_pos e]
      exact pl_nn (hn o ho)
    · rw [if_neg e]
      exact Int.le_refl _
  have n2 : 0 ≤ isum (sn X 8) (fun o => (if fPr z X o = true then 0 else pl (fTl X o) l) + pl (fDv X o) l) := by
    refine isum_nn (fun o ho => ?_)
    have a1 := pl_nn (l := l) (hn o ho)
    have a2 := pl_nn (l := l) (hd o ho)
    by_cases e : fPr z X o = true
    · rw [if_pos e]; omega
    · rw [if_neg e]; omega
  have hnp := np_le h
  refine ⟨n1, r2, by omega, by rw [e1]; exact Int.natCast_nonneg _, ?_⟩
  rw [e2]
  exact ⟨by omega, by omega⟩
theorem iAll.Part (h : iAll z k X) : fPart X := by
  intro i hi
  obtain ⟨g1, g2, g3, g4⟩ := h.pt.2.2.2.1 i hi
  refine ⟨by omega, by omega, ?_, ?_⟩
  · rw [g1, Int.toNat_natCast]; exact g3
  · rw [g2, Int.toNat_natCast]; exact g4
theorem iAll.Cmp (h : iAll z k X) : fCmp X := by
  intro j hj
  obtain ⟨g1, g2, g3⟩ := h.pt.2.2.2.2.2.2.1 j hj
  have := np_le h
  exact ⟨⟨by omega, by omega⟩, g2, ⟨by omega, by omega⟩⟩
theorem iAll.Ord (h : iAll z k X) : fOrd z X := by
  intro o ho
  obtain ⟨-, ⟨p, -, e⟩, -, -, -, h5, h6, h7, -⟩ := h.or o ho
  exact ⟨by rw [e]; exact Int.natCast_nonneg _, h5.1, h6.1, h7⟩
theorem iAll.Oq (h : iAll z k X) {o : Nat} (ho : o < sn X 8) : fOq X o := by
  obtain ⟨-, ⟨p, -, e⟩, h2, h3, -, h5, -⟩ := h.or o ho
  exact ⟨h2, ⟨by omega, by omega⟩, by rw [e]; exact Int.natCast_nonneg _, h5.1⟩
theorem iAll.Ops (h : iAll z k X) : fOps X := h.pt.2.2.2.2.2.2.2.2
theorem iAll.hO (h : iAll z k X) : hOrd X := by
  intro o ho
  obtain ⟨h0, -, -, -, h4, -⟩ := h.or o ho
  have := h.fix.2.2.2.2.2.2.2.2.2.2.2.1
  exact ⟨by omega, by omega, h4.1, by omega⟩
theorem iAll.Num (h : iAll z k X) : fNum X := by
  intro o ho
  obtain ⟨h0, -⟩ := h.or o ho
  have := h.fix.2.2.2.2.2.2.2.2.2.2.2.1
  exact ⟨h0, by omega⟩
theorem iAll.Mn (h : iAll z k X) : fMn X := by
  intro m hm
  obtain ⟨g1, g2, g3, g4, -⟩ := h.mc.2.2 m hm
  exact ⟨g3.1, g3.2.1, ⟨by omega, by omega⟩⟩
theorem iAll.Ln (h : iAll z k X) : fLn X := fun l hl => (h.lo l hl).1
/-- a queue has no order twice: it is short -/
theorem nodup_len {L : List Int} {n : Nat} (hn : L.Nodup) (hL : ∀ x ∈ L, 0 ≤ x ∧ x < n) : L.length ≤ n := by
  have h1 : (L.map Int.toNat).Nodup := by
    rw [List.nodup_iff_pairwise_ne, List.pairwise_map]
    refine List.Pairwise.imp_of_mem ?_ (List.nodup_iff_pairwise_ne.mp hn)
    intro a b ha hb hab
    have := hL a ha
    have := hL b hb
    omega
  have h2 := List.Nodup.length_le_of_subset h1 (l₂ := List.range n) (fun x hx => by
    obtain ⟨y, hy, rfl⟩ := List.mem_map.mp hx
    have := hL y hy
    exact List.mem_range.mpr (by omega))
  rw [List.length_map, List.length_range] at h2
  exact h2
theorem iAll.Mach (h : iAll z k X) (hQ : rQ X Y) : fMach X := by
  intro m hm
  obtain ⟨g1, g2, -⟩ := h.mc.2.2 m hm
  have h8 := h.fix.2.2.2.2.2.2.2.2.2.2.2.1
  refine ⟨g2, by omega, ?_⟩
  rw [g1, Int.toNat_natCast]
  have := nodup_len (n := sn X 8) (hQ m hm).1 (fun x hx => by
    have := ((hQ m hm).2 x).mp hx
    exact ⟨this.1, this.2.1⟩)
  omega
theorem iAll.JI (h : iAll z k X) (hQ : rQ X Y) : fJI X := by
  refine ⟨h.Part, h.Mach hQ, h.Mn, h.Ops, h.hO, h.Num, fun i hi => ?_, h.mc.2.1, fun m hm => ?_, fun o ho => ?_⟩
  · have := (h.pt.2.2.2.2.1 2 i (Or.inl rfl) hi).1
    exact ⟨by omega, by omega⟩
  · refine ⟨(h.mc.2.2 m hm).1, by rw [h.mc.1]; exact hm, fun x hx => (h.qw.1 m hm x hx).2.2.2⟩
  · obtain ⟨-, ⟨p, hp, e⟩, -⟩ := h.or o ho
    rw [e]
    refine ⟨Int.natCast_nonneg _, fun hq => ?_⟩
    rw [Int.toNat_natCast] at hq ⊢
    rcases h.pt.pc hp with ⟨q1, q2, q3⟩ | ⟨q1, q2, q3⟩
    · exact q2
    · omega
end ZBP
