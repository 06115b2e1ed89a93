/-! THE SIMULATION: pieces of a lot are reserved for an order, on both sides -/
set_option maxRecDepth 100000
section ZBT
variable {z : Nat → Nat} {X Y : hS} {l m o : Nat} {t : Int}
theorem intS_T {c k i : Nat} (h : c ≠ 19) : sT (intS Y t) c k i = sT Y c k i := by
  unfold intS
  split
  · rfl
  · rw [sT_set, if_neg (by omega), sT_w, if_neg (by omega)]
theorem intS_E {c i : Nat} (h : c ≠ 19) : sE (intS Y t) c i = sE Y c i := by
  unfold intS
  split
  · rfl
  · rw [sE_set, sE_w, if_neg (by omega)]
theorem intS_n {c : Nat} (h : c ≠ 19) : sn (intS Y t) c = sn Y c := by
  unfold intS
  split
  · rfl
  · rw [sn_set, sn_w, if_neg (by omega)]
theorem intS_old {q : Nat} (h : q < sn Y 19) : sT (intS Y t) 19 0 q = sT Y 19 0 q := by
  unfold intS
  split
  · rfl
  · rw [sT_set, if_neg (by omega), sT_w, if_neg (by omega)]
theorem intS_n19 : sn Y 19 ≤ sn (intS Y t) 19 := by
  unfold intS
  split
  · exact Nat.le_refl _
  · rw [sn_set, sn_w, if_pos rfl]; omega
theorem intS_new (hb : mBox Y) (ht : 0 < t) : sT (intS Y t) 19 0 (intIx Y t) = t ∧ intIx Y t < sn (intS Y t) 19 := by
  unfold intS intIx
  obtain ⟨h1, h2, _⟩ := hb
  by_cases h : t ≤ 127
  · rw [if_pos h, if_pos h, h2 _ (by omega)]
    omega
  · rw [if_neg h, if_neg h, sT_set, if_pos ⟨rfl, rfl, rfl⟩, sn_set, sn_w, if_pos rfl]
    omega
theorem mTakeS_T {c k i : Nat} (h19 : c ≠ 19) (h : ¬ (c = 14 ∧ k = 3 ∧ i = l)) : sT (mTakeS Y o l t) c k i = sT Y c k i := by
  unfold mTakeS
  rw [sT_ssE, intS_T h19]
  unfold mTakeA
  rw [sT_ssE, sT_set, if_neg h]
theorem mTakeS_T3 {i : Nat} : sT (mTakeS Y o l t) 14 3 i = if i = l then sT Y 14 3 l + t else sT Y 14 3 i := by
  unfold mTakeS
  rw [sT_ssE, intS_T (by decide)]
  unfold mTakeA
  rw [sT_ssE, sT_set]
  by_cases h : i = l
  · rw [if_pos ⟨rfl, rfl, h⟩, if_pos h]
  · rw [if_neg (fun q => h q.2.2), if_neg h]
theorem mTakeS_E {c i : Nat} (h19 : c ≠ 19) (h : ¬ ((c = 38 ∨ c = 39) ∧ i = o)) : sE (mTakeS Y o l t) c i = sE Y c i := by
  unfold mTakeS
  rw [sE_ssE, if_neg (by omega), intS_E h19]
  unfold mTakeA
  rw [sE_ssE, if_neg (by omega), sE_set]
theorem mTakeS_n {c : Nat} (h19 : c ≠ 19) : sn (mTakeS Y o l t) c = sn Y c := by
  unfold mTakeS
  rw [sn_ssE, intS_n h19]
  rfl
theorem mTakeS_38 : sE (mTakeS Y o l t) 38 o = sE Y 38 o ++ [(l : Int)] := by
  unfold mTakeS
  rw [sE_ssE, if_neg (by omega), intS_E (by decide)]
  unfold mTakeA
  rw [sE_ssE, if_pos ⟨rfl, rfl⟩]
theorem mTakeS_39 : sE (mTakeS Y o l t) 39 o = sE Y 39 o ++ [((intIx Y t : Nat) : Int)] := by
  unfold mTakeS
  rw [sE_ssE, if_pos ⟨rfl, rfl⟩]
theorem mTakeS_19 {q : Nat} (h : q < sn Y 19) : sT (mTakeS Y o l t) 19 0 q = sT Y 19 0 q := by
  unfold mTakeS
  rw [sT_ssE, intS_old (Y := mTakeA Y o l t) h]
  rfl
theorem mTakeS_19n (hb : mBox Y) (ht : 0 < t) : sT (mTakeS Y o l t) 19 0 (intIx Y t) = t ∧ intIx Y t < sn (mTakeS Y o l t) 19 := by
  have h : mBox (mTakeA Y o l t) ∨ True := Or.inr trivial
  unfold mTakeS
  rw [sT_ssE, sn_ssE]
  have h1 : intIx Y t = intIx (mTakeA Y o l t) t := rfl
  unfold intS
  obtain ⟨h1, h2, _⟩ := hb
  unfold intIx
  by_cases h : t ≤ 127
  · rw [if_pos h, if_pos h]
    show sT Y 19 0 _ = t ∧ _ < sn Y 19
    rw [h2 _ (by omega)]
    omega
  · rw [if_neg h, if_neg h, sT_set]
    refine ⟨?_, ?_⟩
    · rw [if_pos ⟨rfl, rfl, rfl⟩]
    · rw [sn_set, sn_w, if_pos rfl]
      show sn Y 19 < sn Y 19 + 1
      omega
theorem mBox_take (hb : mBox Y) (ht : 0 < t) : mBox (mTakeS Y o l t) := by
  have h19 : sn Y 19 ≤ sn (mTakeS Y o l t) 19 := by
    unfold mTakeS
    rw [sn_ssE]
    exact intS_n19 (Y := mTakeA Y o l t)
  refine ⟨Nat.le_trans hb.1 h19, fun j hj => by rw [mTakeS_19 (Nat.lt_of_lt_of_le hj hb.1)]; exact hb.2.1 j hj, fun q hq x hx => ?_⟩
  rw [mTakeS_n (by decide)] at hq
  by_cases e : q = o
  · subst e
    rw [mTakeS_39, List.mem_append, List.mem_singleton] at hx
    rcases hx with hx | rfl
    · have := hb.2.2 q hq x hx; omega
    · have := (mTakeS_19n (o := q) (l := l) hb ht).2; omega
  · rw [mTakeS_E (by decide) (by omega)] at hx
    have := hb.2.2 q hq x hx
    omega
theorem fTakeS_T7 {k i : Nat} (h : i ≠ sn X 7) : sT (fTakeS X m l t) 7 k i = sT X 7 k i := by
  unfold fTakeS kFTaken
  have e7 : sn (sset X 6 5 l (sT X 6 5 l + t)) 7 = sn X 7 := rfl
  rw [sT_ssE, sT_set, if_neg (by omega), sT_set, if_neg (by omega), sT_w, if_neg (by omega), sT_set, if_neg (by omega)]
theorem fTakeS_T70 : sT (fTakeS X m l t) 7 0 (sn X 7) = l := by
  unfold fTakeS kFTaken
  have e7 : sn (sset X 6 5 l (sT X 6 5 l + t)) 7 = sn X 7 := rfl
  rw [sT_ssE, sT_set, if_neg (by omega), sT_set, if_pos ⟨rfl, rfl, rfl⟩]
theorem fTakeS_T71 : sT (fTakeS X m l t) 7 1 (sn X 7) = t := by
  unfold fTakeS kFTaken
  have e7 : sn (sset X 6 5 l (sT X 6 5 l + t)) 7 = sn X 7 := rfl
  rw [sT_ssE, sT_set, if_pos ⟨rfl, rfl, rfl⟩]
theorem fTakeS_T72 : sT (fTakeS X m l t) 7 2 (sn X 7) = 0 := by
  unfold fTakeS kFTaken
  have e7 : sn (sset X 6 5 l (sT X 6 5 l + t)) 7 = sn X 7 := rfl
  rw [sT_ssE, sT_set, if_neg (by omega), sT_set, if_neg (by omega), sT_w, if_pos ⟨rfl, rfl⟩]
  rfl
theorem fTakeS_T {c k i : Nat} (h7 : c ≠ 7) (h : ¬ (c = 6 ∧ k = 5 ∧ i = l)) : sT (fTakeS X m l t) c k i = sT X c k i := by
  unfold fTakeS kFTaken
  have e7 : sn (sset X 6 5 l (sT X 6 5 l + t)) 7 = sn X 7 := rfl
  rw [sT_ssE, sT_set, if_neg (by omega), sT_set, if_neg (by omega), sT_w, if_neg (by omega), sT_set, if_neg h]
theorem fTakeS_T5 {i : Nat} : sT (fTakeS X m l t) 6 5 i = if i = l then sT X 6 5 l + t else sT X 6 5 i := by
  unfold fTakeS kFTaken
  have e7 : sn (sset X 6 5 l (sT X 6 5 l + t)) 7 = sn X 7 := rfl
  rw [sT_ssE, sT_set, if_neg (by omega), sT_set, if_neg (by omega), sT_w, if_neg (by omega), sT_set]
  by_cases h : i = l
  · rw [if_pos ⟨rfl, rfl, h⟩, if_pos h]
  · rw [if_neg (fun q => h q.2.2), if_neg h]
theorem fTakeS_E {c i : Nat} (h7 : c ≠ 7) (h : ¬ (c = 26 ∧ i = m)) : sE (fTakeS X m l t) c i = sE X c i := by
  unfold fTakeS kFTaken
  rw [sE_ssE, if_neg h, sE_set, sE_set, sE_w, if_neg (by omega), sE_set]
theorem fTakeS_26 : sE (fTakeS X m l t) 26 m = sE X 26 m ++ [(sn X 7 : Int)] := by
  unfold fTakeS
  rw [sE_ssE, if_pos ⟨rfl, rfl⟩]
theorem fTakeS_n {c : Nat} (h7 : c ≠ 7) : sn (fTakeS X m l t) c = sn X c := by
  unfold fTakeS kFTaken
  rw [sn_ssE, sn_set, sn_set, sn_w, if_neg h7, sn_set]
theorem fTakeS_n7 : sn (fTakeS X m l t) 7 = sn X 7 + 1 := rfl
/-- what the other lists hold stays -/
theorem iTk.lst (hk : iTk X) {i : Nat} (hi : i < sn X 26) {q : Int} (hq : q ∈ sE X 26 i) : q.toNat < sn X 7 ∧ 0 ≤ q := by
  have := hk.1 i hi q hq; omega
theorem take_fch (hk : iTk X) (hL : iLo X) {i : Nat} (hi : i < sn X 6) (hne : (sT X 6 3 i).toNat ≠ m) : fch (fTakeS X m l t) i = fch X i := by
  have h3 := (hL i hi).2.2.2.1
  refine fch_congr (fTakeS_T (by decide) (by omega)) (fTakeS_E (by decide) (by omega)) (fun q hq => fTakeS_T7 ?_)
  have := hk.lst (i := (sT X 6 3 i).toNat) (by omega) hq
  omega
theorem take_fTl (hk : iTk X) {q : Nat} (h5 : 0 ≤ sT X 8 5 q ∧ sT X 8 5 q < sn X 26) (hne : fOL X q ≠ m) : fTl (fTakeS X m l t) q = fTl X q := by
  have e : fOL (fTakeS X m l t) q = fOL X q := by unfold fOL; rw [fTakeS_T (by decide) (by omega)]
  refine fTl_congr e (fTakeS_E (by decide) (by omega)) (fun x hx => ?_)
  have := hk.lst (i := fOL X q) (by unfold fOL; omega) hx
  exact ⟨fTakeS_T7 (by omega), fTakeS_T7 (by omega)⟩
theorem take_fTl_o (hk : iTk X) (h5 : 0 ≤ sT X 8 5 o ∧ sT X 8 5 o < sn X 26) : fTl (fTakeS X (fOL X o) l t) o = fTl X o ++ [((l : Int), t)] := by
  have e : fOL (fTakeS X (fOL X o) l t) o = fOL X o := by unfold fOL; rw [fTakeS_T (by decide) (by omega)]
  unfold fTl
  rw [e, fTakeS_26, List.map_append, List.map_cons, List.map_nil]
  congr 1
  · refine List.map_congr_left (fun x hx => ?_)
    have := hk.lst (i := fOL X o) (by unfold fOL; omega) hx
    rw [fTakeS_T7 (by omega), fTakeS_T7 (by omega)]
  · rw [show ((sn X 7 : Nat) : Int).toNat = sn X 7 from rfl, fTakeS_T70, fTakeS_T71]
theorem take_fDv (hk : iTk X) {q : Nat} (h6 : 0 ≤ sT X 8 6 q ∧ sT X 8 6 q < sn X 27) : fDv (fTakeS X m l t) q = fDv X q := by
  have e : fDelL (fTakeS X m l t) q = fDelL X q := by unfold fDelL; rw [fTakeS_T (by decide) (by omega)]
  unfold fDv
  rw [e, fTakeS_E (by decide) (by omega)]
  refine List.map_congr_left (fun x hx => ?_)
  have := hk.2.1 (fDelL X q) (by unfold fDelL; omega) x hx
  rw [fTakeS_T7 (by omega), fTakeS_T7 (by omega)]
theorem take_mTl (hb : mBox Y) {q : Nat} (hq : q < sn Y 15) (hne : q ≠ o) : mTl (mTakeS Y o l t) q = mTl Y q := by
  refine mTl_congr (mTakeS_E (by decide) (by omega)) (mTakeS_E (by decide) (by omega)) (fun x hx => ?_)
  have := hb.2.2 q hq x hx
  exact mTakeS_19 (by omega)
theorem take_mTl_o (hb : mBox Y) (ho : o < sn Y 15) (ht : 0 < t) (hlen : (sE Y 38 o).length = (sE Y 39 o).length) : mTl (mTakeS Y o l t) o = mTl Y o ++ [((l : Int), t)] := by
  unfold mTl mZs
  rw [mTakeS_38, mTakeS_39, List.zip_append hlen, List.map_append]
  congr 1
  · refine List.map_congr_left (fun x hx => ?_)
    have := hb.2.2 o ho x.2 (List.of_mem_zip hx).2
    rw [mTakeS_19 (by omega)]
  · show [((l : Int), sT (mTakeS Y o l t) 19 0 (((intIx Y t : Nat) : Int)).toNat)] = _
    rw [show ((intIx Y t : Nat) : Int).toNat = intIx Y t from rfl, (mTakeS_19n hb ht).1]
theorem rR_take (h : rR z X Y) (hz : zInj z) (hk : iTk X) (hL : iLo X) (hO : iOr z X) (hs : iSp z X) (hb : mBox Y) (ho : o < sn X 8) (hst : sT X 8 7 o = (z 1 : Nat)) (hl : l < sn X 6) (ht : 0 < t) : rR z (fTakeS X (fOL X o) l t) (mTakeS Y o l t) := by
  obtain ⟨hG, hM, hP, hLr, hOr, hQ, hS⟩ := h
  have hoY : o < sn Y 15 := by rw [hOr.1]; exact ho
  have hfo := (hO o ho).2.2.2.2.2.1
  have hsep : ∀ i : Nat, i < sn X 6 → (sT X 6 3 i).toNat ≠ fOL X o := by
    intro i hi e
    have h3 := (hL i hi).2.2.2.1
    unfold fOL at e
    rcases hs.2.2.1 i o hi ho (by omega) with q | q
    · rw [hst] at q
      have := hz 1 4 (by decide) (by decide) (by omega)
      omega
    · rw [hst] at q
      have := hz 1 5 (by decide) (by decide) (by omega)
      omega
  refine ⟨?_, ?_, ?_, ?_, ?_, ?_, ?_⟩
  · unfold rG at hG ⊢
    rw [fTakeS_T (by decide) (by omega), fTakeS_T (by decide) (by omega), mTakeS_T (by decide) (by omega), mTakeS_T (by decide) (by omega)]
    exact hG
  · exact rM_congr (fun k i => fTakeS_T (by decide) (by omega)) (fTakeS_n (by decide)) (fun k i => mTakeS_T (by decide) (by omega)) (mTakeS_n (by decide)) hM
  · exact rP_congr (fun c k i hc => fTakeS_T (by omega) (by omega)) (fun c i hc => fTakeS_E (by omega) (by omega)) (fun k i => mTakeS_T (by decide) (by omega)) (fun c i hc => mTakeS_E (by omega) (by omega)) (mTakeS_n (by decide)) hP
  · refine ⟨by rw [mTakeS_n (by decide), fTakeS_n (by decide)]; exact hLr.1, fun i hi => ?_⟩
    rw [fTakeS_n (by decide)] at hi
    obtain ⟨⟨p, g1, g2, g3⟩, g4, g5, g6, g7, g8⟩ := hLr.2 i hi
    have e21 : sE (fTakeS X (fOL X o) l t) 21 0 = sE X 21 0 := fTakeS_E (by decide) (by omega)
    refine ⟨⟨p, by unfold np at g1 ⊢; rw [e21]; exact g1, by rw [mTakeS_T (by decide) (by omega)]; exact g2, by rw [fTakeS_T (by decide) (by omega), fPc_congr e21]; exact g3⟩, ?_, ?_, ?_, ?_, ?_⟩
    · rw [mTakeS_T (by decide) (by omega), fTakeS_T (by decide) (by omega)]; exact g4
    · rw [mTakeS_T3, fTakeS_T5]
      by_cases e : i = l
      · subst e
        rw [if_pos rfl, if_pos rfl, g5]
      · rw [if_neg e, if_neg e]; exact g5
    · rw [mTakeS_T (by decide) (by omega), fTakeS_T (by decide) (by omega)]; exact g6
    · rw [mTakeS_T (by decide) (by omega), fTakeS_T (by decide) (by omega)]; exact g7
    · rw [take_fch hk hL hi (hsep i hi), ← g8]
      unfold mch
      rw [mTakeS_T (by decide) (by omega), mTakeS_E (by decide) (by omega)]
  · refine ⟨by rw [mTakeS_n (by decide), fTakeS_n (by decide)]; exact hOr.1, fun q hq => ?_⟩
    rw [fTakeS_n (by decide)] at hq
    obtain ⟨g1, g2, g3, g4⟩ := hOr.2 q hq
    have hOq := hO q hq
    refine ⟨rOa_congr (fun k hk2 => fTakeS_T (by decide) (by omega)) (fTakeS_E (by decide) (by omega)) (fun k hk2 => mTakeS_T (by decide) (by omega)) g1, rOb_congr (fun k hk2 => fTakeS_T (by decide) (by omega)) (fun k hk2 => mTakeS_T (by decide) (by omega)) g2, ?_, ?_⟩
    · by_cases e : q = o
      · subst e
        refine ⟨?_, ?_⟩
        · rw [take_mTl_o hb hoY ht g3.2, take_fTl_o hk hfo, g3.1]
        · rw [mTakeS_38, mTakeS_39, List.length_append, List.length_append, g3.2]
          rfl
      · have hne : fOL X q ≠ fOL X o := by
          intro e2
          unfold fOL at e2
          have h5 := hOq.2.2.2.2.2.1
          exact e (hs.1 q o hq ho (by omega))
        refine ⟨?_, ?_⟩
        · rw [take_mTl hb (by rw [hOr.1]; exact hq) e, take_fTl hk hOq.2.2.2.2.2.1 hne]; exact g3.1
        · rw [mTakeS_E (by decide) (by omega), mTakeS_E (by decide) (by omega)]; exact g3.2
    · have h6 := hOq.2.2.2.2.2.2.1
      refine rD_congr (by unfold fDelL; rw [fTakeS_T (by decide) (by omega)]) (fTakeS_E (by decide) (by omega)) (fun x hx => ?_) (mTakeS_E (by decide) (by omega)) (mTakeS_T (by decide) (by omega)) g4
      have := hk.2.1 (fDelL X q) (by unfold fDelL; omega) x hx
      exact ⟨fTakeS_T7 (by omega), fTakeS_T7 (by omega)⟩
  · exact rQ_congr (fun m hm => fTakeS_E (by decide) (by omega)) (fTakeS_n (by decide)) (fTakeS_n (by decide)) (fun q hq => ⟨mTakeS_T (by decide) (by omega), mTakeS_T (by decide) (by omega)⟩) hQ
  · exact rS_congr (fun x hx => ⟨fTakeS_E (by decide) (by omega), fTakeS_T (by decide) (by omega)⟩) (fun c i hc => mTakeS_E (by omega) (by omega)) (mTakeS_n (by decide)) hS
end ZBT
