/-! THE SIMULATION: each piece of the relation reads few fields -/
set_option maxRecDepth 100000
section ZBC
variable {z : Nat → Nat} {X X' Y Y' : hS}
theorem fPc_congr (h : sE X' 21 0 = sE X 21 0) (p : Int) : fPc X' p = fPc X p := by unfold fPc; rw [h]
theorem rM_congr (hT : ∀ k i : Nat, sT X' 1 k i = sT X 1 k i) (hn : sn X' 1 = sn X 1) (hT' : ∀ k i : Nat, sT Y' 12 k i = sT Y 12 k i) (hn' : sn Y' 12 = sn Y 12) (h : rM X Y) : rM X' Y' := by
  refine ⟨by rw [hn, hn']; exact h.1, fun m hm => ?_⟩
  have h2 := h.2 m (by rw [hn] at hm; exact hm)
  have e : fState X' m = fState X m := by unfold fState; rw [hT, hT]
  rw [e]
  simp only [hT, hT']
  exact h2
theorem rP_congr (hT : ∀ c k i : Nat, c = 2 ∨ c = 3 ∨ c = 4 ∨ c = 5 → sT X' c k i = sT X c k i) (hE : ∀ c i : Nat, c = 21 ∨ c = 24 ∨ c = 25 → sE X' c i = sE X c i) (hT' : ∀ k i : Nat, sT Y' 13 k i = sT Y 13 k i) (hE' : ∀ c i : Nat, c = 36 ∨ c = 37 ∨ c = 46 → sE Y' c i = sE Y c i) (hn' : sn Y' 13 = sn Y 13) (h : rP X Y) : rP X' Y' := by
  have e21 := hE 21 0 (by omega)
  have epc := fPc_congr e21
  refine ⟨by rw [hn', h.1]; unfold np; rw [e21], fun p hp => ?_⟩
  have h2 := h.2 p (by unfold np at hp ⊢; rw [e21] at hp; exact hp)
  have ecl : pcl X' p = pcl X p := by unfold pcl; rw [epc]
  have eix : pix X' p = pix X p := by unfold pix; rw [epc]
  have hc : pcl X p = 2 ∨ pcl X p = 3 ∨ pcl X p = 4 ∨ pcl X p = 5 := by unfold pcl; omega
  rw [epc, ecl, eix, hT _ _ _ hc, hT _ _ _ hc, hT _ _ _ hc, hT _ _ _ hc, hT _ _ _ hc, hT _ _ _ hc, hT', hT', hT', hT', hT', hT', hT']
  refine ⟨h2.1, h2.2.1, h2.2.2.1, h2.2.2.2.1, h2.2.2.2.2.1, h2.2.2.2.2.2.1, h2.2.2.2.2.2.2.1, fun hq => ?_⟩
  obtain ⟨g1, g2⟩ := h2.2.2.2.2.2.2.2 hq
  unfold rCs at g1 ⊢
  unfold rOs at g2 ⊢
  rw [eix]
  simp only [hT 4 _ _ (by omega), hT 5 _ _ (by omega), hE 24 _ (by omega), hE 25 _ (by omega), hE' 36 _ (by omega), hE' 37 _ (by omega), hE' 46 _ (by omega)]
  exact ⟨g1, g2⟩
theorem fch_congr {l : Nat} (h3 : sT X' 6 3 l = sT X 6 3 l) (hE : sE X' 26 (sT X 6 3 l).toNat = sE X 26 (sT X 6 3 l).toNat) (hT : ∀ t ∈ sE X 26 (sT X 6 3 l).toNat, sT X' 7 0 t.toNat = sT X 7 0 t.toNat) : fch X' l = fch X l := by
  unfold fch
  rw [h3, hE]
  exact List.map_congr_left (fun t ht => by rw [hT t ht])
theorem rL_congr (hT : ∀ k i : Nat, i < sn X 6 → k ≠ 0 → k ≠ 2 → sT X' 6 k i = sT X 6 k i) (h21 : sE X' 21 0 = sE X 21 0) (hn : sn X' 6 = sn X 6) (hch : ∀ l : Nat, l < sn X 6 → fch X' l = fch X l)
    (hT' : ∀ k i : Nat, i < sn X 6 → k ≠ 0 → sT Y' 14 k i = sT Y 14 k i) (hE' : ∀ i : Nat, sE Y' 41 i = sE Y 41 i) (hn' : sn Y' 14 = sn Y 14) (h : rL X Y) : rL X' Y' := by
  refine ⟨by rw [hn, hn']; exact h.1, fun l hl => ?_⟩
  have hl' : l < sn X 6 := by rw [hn] at hl; exact hl
  obtain ⟨⟨p, g1, g2, g3⟩, g4, g5, g6, g7, g8⟩ := h.2 l hl'
  have em : mch Y' l = mch Y l := by unfold mch; rw [hE', hT' 6 l hl' (by omega)]
  rw [hch l hl', em, hT 4 l hl' (by omega) (by omega), hT 5 l hl' (by omega) (by omega), hT 6 l hl' (by omega) (by omega), hT 7 l hl' (by omega) (by omega), hT 1 l hl' (by omega) (by omega), hT' 1 l hl' (by omega), hT' 2 l hl' (by omega), hT' 3 l hl' (by omega), hT' 4 l hl' (by omega), hT' 5 l hl' (by omega)]
  exact ⟨⟨p, by unfold np at g1 ⊢; rw [h21]; exact g1, g2, by rw [fPc_congr h21]; exact g3⟩, g4, g5, g6, g7, g8⟩
theorem rOa_congr {o : Nat} (hT : ∀ k : Nat, k = 1 ∨ k = 2 ∨ k = 3 ∨ k = 4 → sT X' 8 k o = sT X 8 k o) (h21 : sE X' 21 0 = sE X 21 0) (hT' : ∀ k : Nat, k = 1 ∨ k = 2 ∨ k = 3 ∨ k = 4 → sT Y' 15 k o = sT Y 15 k o) (h : rOa X Y o) : rOa X' Y' o := by
  obtain ⟨⟨p, g1, g2, g3⟩, g4, g5, g6⟩ := h
  refine ⟨⟨p, by unfold np at g1 ⊢; rw [h21]; exact g1, by rw [hT' 1 (by omega)]; exact g2, by rw [hT 1 (by omega), fPc_congr h21]; exact g3⟩, ?_, ?_, ?_⟩
  · rw [hT' 2 (by omega), hT 2 (by omega)]; exact g4
  · rw [hT' 3 (by omega), hT 3 (by omega)]; exact g5
  · rw [hT' 4 (by omega), hT 4 (by omega)]; exact g6
theorem rOs_congr {o s : Nat} (hT : ∀ k : Nat, k = 1 ∨ k = 7 ∨ k = 11 ∨ k = 12 → sT X' 8 k o = sT X 8 k o) (hT' : ∀ k : Nat, k = 5 ∨ k = 13 ∨ k = 14 → sT Y' 15 k o = sT Y 15 k o) (h : rOs_ z X Y o s) : rOs_ z X' Y' o s := by
  obtain ⟨g1, g2, g3, g4, g5⟩ := h
  refine ⟨g1, ?_, ?_, ?_, ?_⟩
  · rw [hT 7 (by omega)]; exact g2
  · rw [hT' 5 (by omega)]; exact g3
  · rw [hT' 13 (by omega), hT 1 (by omega), hT 11 (by omega)]; exact g4
  · rw [hT' 14 (by omega), hT 12 (by omega)]; exact g5
theorem rOb_congr {o : Nat} (hT : ∀ k : Nat, k = 1 ∨ k = 7 ∨ k = 8 ∨ k = 9 ∨ k = 10 ∨ k = 11 ∨ k = 12 ∨ k = 13 → sT X' 8 k o = sT X 8 k o) (hT' : ∀ k : Nat, k = 5 ∨ k = 8 ∨ k = 9 ∨ k = 11 ∨ k = 12 ∨ k = 13 ∨ k = 14 → sT Y' 15 k o = sT Y 15 k o) (h : rOb z X Y o) : rOb z X' Y' o := by
  obtain ⟨⟨s, g1⟩, g2, g3, g4, g5⟩ := h
  refine ⟨⟨s, rOs_congr (fun k hk => hT k (by omega)) (fun k hk => hT' k (by omega)) g1⟩, ?_, ?_, ?_, ?_⟩
  · rw [hT' 8 (by omega), hT 8 (by omega)]; exact g2
  · rw [hT' 9 (by omega), hT 9 (by omega)]; exact g3
  · rw [hT' 11 (by omega), hT 10 (by omega)]; exact g4
  · rw [hT' 12 (by omega), hT 13 (by omega)]; exact g5
theorem fTl_congr {o : Nat} (h5 : fOL X' o = fOL X o) (hE : sE X' 26 (fOL X o) = sE X 26 (fOL X o)) (hT : ∀ t ∈ sE X 26 (fOL X o), sT X' 7 0 t.toNat = sT X 7 0 t.toNat ∧ sT X' 7 1 t.toNat = sT X 7 1 t.toNat) : fTl X' o = fTl X o := by
  unfold fTl
  rw [h5, hE]
  exact List.map_congr_left (fun t ht => by rw [(hT t ht).1, (hT t ht).2])
theorem mTl_congr {o : Nat} (h38 : sE Y' 38 o = sE Y 38 o) (h39 : sE Y' 39 o = sE Y 39 o) (hT : ∀ q ∈ sE Y 39 o, sT Y' 19 0 q.toNat = sT Y 19 0 q.toNat) : mTl Y' o = mTl Y o := by
  unfold mTl mZs
  rw [h38, h39]
  refine List.map_congr_left (fun q hq => ?_)
  rw [hT q.2 (List.of_mem_zip hq).2]
theorem rD_congr {o : Nat} (h6 : fDelL X' o = fDelL X o) (hE : sE X' 27 (fDelL X o) = sE X 27 (fDelL X o)) (hT : ∀ t ∈ sE X 27 (fDelL X o), sT X' 7 0 t.toNat = sT X 7 0 t.toNat ∧ sT X' 7 2 t.toNat = sT X 7 2 t.toNat) (h40 : sE Y' 40 o = sE Y 40 o) (h15 : sT Y' 15 15 o = sT Y 15 15 o) (h : rD X Y o) : rD X' Y' o := by
  obtain ⟨g1, g2⟩ := h
  refine ⟨?_, ?_⟩
  · rw [h40, g1, h6, hE]
    exact List.map_congr_left (fun t ht => by rw [(hT t ht).1])
  · rw [h15, g2]
    unfold fDelSum
    rw [h6, hE, List.take_length]
    congr 1
    exact List.map_congr_left (fun t ht => by rw [(hT t ht).2])
theorem rQ_congr (hE : ∀ m : Nat, m < sn X 1 → sE X' 45 m = sE X 45 m) (h1 : sn X' 1 = sn X 1) (h8 : sn X' 8 = sn X 8) (hT' : ∀ o : Nat, o < sn X 8 → sT Y' 15 5 o = sT Y 15 5 o ∧ sT Y' 15 10 o = sT Y 15 10 o) (h : rQ X Y) : rQ X' Y' := by
  intro m hm
  rw [h1] at hm
  obtain ⟨g1, g2⟩ := h m hm
  rw [hE m hm, h8]
  refine ⟨g1, fun x => (g2 x).trans ?_⟩
  constructor
  · rintro ⟨a1, a2, a3, a4⟩
    have := hT' x.toNat (by omega)
    exact ⟨a1, a2, this.1.trans a3, this.2.trans a4⟩
  · rintro ⟨a1, a2, a3, a4⟩
    have := hT' x.toNat (by omega)
    exact ⟨a1, a2, this.1.symm.trans a3, this.2.symm.trans a4⟩
theorem rS_congr (hE : ∀ x : Nat, x < 4 → sE X' 28 x = sE X 28 x ∧ sT X' 9 0 x = sT X 9 0 x) (hE' : ∀ c i : Nat, c = 34 ∨ c = 35 ∨ c = 47 → sE Y' c i = sE Y c i) (hn : sn Y' 35 = sn Y 35) (h : rS z X Y) : rS z X' Y' := by
  obtain ⟨g1, g2, g3, g4⟩ := h
  rw [← hE' 34 0 (by omega)] at g1
  rw [← hE' 47 0 (by omega)] at g3
  refine ⟨g1, hn.trans g2, g3, fun x hx => ?_⟩
  obtain ⟨a1, a2⟩ := g4 x hx
  rw [hE' 35 x (by omega), hE' 47 0 (by omega), (hE x hx).1]
  unfold fRl at a2 ⊢
  rw [(hE x hx).2]
  exact ⟨a1, a2⟩
end ZBC
