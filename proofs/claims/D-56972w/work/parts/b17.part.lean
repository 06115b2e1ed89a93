/-! THE SIMULATION: addPart -/
set_option maxRecDepth 100000
section ZBP1
variable {z : Nat → Nat} {k : Nat} {X X' Y Y' : hS} {f : Int}
/-- parts are only added -/
def pgr (X X' : hS) : Prop := np X ≤ np X' ∧ ∀ p : Nat, p < np X → fPc X' p = fPc X p
theorem iLo.gr (h : iLo X) (G : pgr X X') (h6 : ceq X X' 6) (h7 : ceq X X' 7) (h26 : ceq X X' 26) : iLo X' := by
  intro l hl
  rw [h6.1] at hl
  obtain ⟨g1, ⟨p, p1, p2⟩, g3⟩ := h l hl
  simp only [h6.2.1, h26.1, h26.2.2, h7.2.1]
  exact ⟨g1, ⟨p, Nat.lt_of_lt_of_le p1 G.1, by rw [G.2 p p1]; exact p2⟩, g3⟩
theorem iOr.gr (h : iOr z X) (G : pgr X X') (h6 : ceq X X' 6) (h8 : ceq X X' 8) (h26 : sn X' 26 = sn X 26) (h27 : sn X' 27 = sn X 27) : iOr z X' := by
  intro o ho
  rw [h8.1] at ho
  obtain ⟨g1, ⟨p, p1, p2⟩, g3⟩ := h o ho
  simp only [h8.2.1, h6.1, h6.2.1, h26, h27]
  exact ⟨g1, ⟨p, Nat.lt_of_lt_of_le p1 G.1, by rw [G.2 p p1]; exact p2⟩, g3⟩
theorem rL.gr (h : rL X Y) (G : pgr X X') (h6 : ceq X X' 6) (h7 : ceq X X' 7) (h26 : ceq X X' 26) (m14 : ceq Y Y' 14) (m41 : ceq Y Y' 41) : rL X' Y' := by
  refine ⟨by rw [h6.1, m14.1]; exact h.1, fun l hl => ?_⟩
  rw [h6.1] at hl
  obtain ⟨⟨p, p1, p2, p3⟩, g2, g3, g4, g5, g6⟩ := h.2 l hl
  have em : mch Y' l = mch Y l := by unfold mch; rw [m14.2.1, m41.2.2]
  rw [em, ch_cg h6 h7 h26]
  simp only [h6.2.1, m14.2.1]
  exact ⟨⟨p, Nat.lt_of_lt_of_le p1 G.1, p2, by rw [G.2 p p1]; exact p3⟩, g2, g3, g4, g5, g6⟩
theorem rO.gr (h : rO z X Y) (G : pgr X X') (h7 : ceq X X' 7) (h8 : ceq X X' 8) (h26 : ceq X X' 26) (h27 : ceq X X' 27) (m15 : ceq Y Y' 15) (m19 : ceq Y Y' 19) (m38 : ceq Y Y' 38) (m39 : ceq Y Y' 39) (m40 : ceq Y Y' 40) : rO z X' Y' := by
  refine ⟨by rw [h8.1, m15.1]; exact h.1, fun o ho => ?_⟩
  rw [h8.1] at ho
  obtain ⟨⟨⟨p, p1, p2, p3⟩, a2, a3, a4⟩, g2, g3, g4⟩ := h.2 o ho
  refine ⟨⟨⟨p, Nat.lt_of_lt_of_le p1 G.1, by rw [m15.2.1]; exact p2, by rw [h8.2.1, G.2 p p1]; exact p3⟩, by rw [m15.2.1, h8.2.1]; exact a2, by rw [m15.2.1, h8.2.1]; exact a3, by rw [m15.2.1, h8.2.1]; exact a4⟩, rOb_congr (fun k _ => h8.2.1 k o) (fun k _ => m15.2.1 k o) g2, ⟨?_, ?_⟩, ?_⟩
  · rw [tl_cg h7 h8 h26, mTl_congr (m38.2.2 o) (m39.2.2 o) (fun q _ => m19.2.1 0 q.toNat)]
    exact g3.1
  · rw [m38.2.2, m39.2.2]
    exact g3.2
  · exact rD_congr (by unfold fDelL; rw [h8.2.1]) (h27.2.2 _) (fun t _ => ⟨h7.2.1 0 _, h7.2.1 2 _⟩) (m40.2.2 o) (m15.2.1 15 o) g4
theorem pgr.same (h : sE X' 21 0 = sE X 21 0) : pgr X X' := ⟨by show (sE X 21 0).length ≤ (sE X' 21 0).length; rw [h]; exact Nat.le_refl _, fun p _ => fPc_congr h p⟩
/-- the new part, made or bought -/
theorem fAP_21 {c : Bool} : sE (fAddPart X c f) 21 0 = sE X 21 0 ++ [if c = true then ((2 * sn X 2 : Nat) : Int) else ((2 * sn X 3 + 1 : Nat) : Int)] := by
  cases c <;> rfl
theorem fAP_np {c : Bool} : np (fAddPart X c f) = np X + 1 := by
  show (sE (fAddPart X c f) 21 0).length = (sE X 21 0).length + 1
  rw [fAP_21, List.length_append]
  rfl
theorem fAP_pc {c : Bool} {p : Nat} (hp : p < np X) : fPc (fAddPart X c f) p = fPc X p := by
  unfold fPc
  rw [fAP_21, Int.toNat_natCast, List.getD_eq_getElem?_getD, List.getD_eq_getElem?_getD, List.getElem?_append_left hp]
theorem fAP_pcn {c : Bool} : fPc (fAddPart X c f) ((np X : Nat) : Int) = if c = true then 2 * sn X 2 else 2 * sn X 3 + 1 := by
  unfold fPc
  rw [fAP_21, Int.toNat_natCast, List.getD_eq_getElem?_getD]
  show ((sE X 21 0 ++ [_])[(sE X 21 0).length]?.getD 0).toNat = _
  rw [List.getElem?_append_right (Nat.le_refl _), Nat.sub_self]
  cases c
  · exact Int.toNat_natCast _
  · exact Int.toNat_natCast _
theorem fAP_gr {c : Bool} : pgr X (fAddPart X c f) := ⟨by rw [fAP_np]; omega, fun p hp => fAP_pc hp⟩
theorem fAP_ceq {c : Bool} {d : Nat} (h2 : d ≠ 2) (h3 : d ≠ 3) (h21 : d ≠ 21) (h24 : d ≠ 24) (h25 : d ≠ 25) : ceq X (fAddPart X c f) d := by
  unfold fAddPart
  cases c with
  | true =>
    rw [if_pos rfl]
    unfold kFMade kPartInit2
    exact ((((((((ceq.refl.snw h2).set h2).set h2).set h2).set h2).snw h24).set h2).snw h25).set h2 |>.ssE h21
  | false =>
    rw [if_neg (by decide)]
    unfold kFBought kPartInit3
    exact (((((ceq.refl.snw h3).set h3).set h3).set h3).set h3).ssE h21
theorem fAP_bought {d : Nat} (h3 : d ≠ 3) (h21 : d ≠ 21) : ceq X (fAddPart X false f) d := by
  unfold fAddPart
  rw [if_neg (by decide)]
  unfold kFBought kPartInit3
  exact (((((ceq.refl.snw h3).set h3).set h3).set h3).set h3).ssE h21
theorem fAP_made3 : ceq X (fAddPart X true f) 3 := by
  unfold fAddPart
  rw [if_pos rfl]
  unfold kFMade kPartInit2
  exact ((((((((ceq.refl.snw (by decide)).set (by decide)).set (by decide)).set (by decide)).set (by decide)).snw (by decide)).set (by decide)).snw (by decide)).set (by decide) |>.ssE (by decide)
theorem fAPm_old {k i : Nat} (h : i ≠ sn X 2) : sT (fAddPart X true f) 2 k i = sT X 2 k i := by
  unfold fAddPart
  rw [if_pos rfl]
  unfold kFMade kPartInit2
  rw [sT_ssE, sT_set, if_neg (by omega), sT_w, if_neg (by omega), sT_set, if_neg (by omega), sT_w, if_neg (by omega), sT_set, if_neg (by omega), sT_set, if_neg (by omega), sT_set, if_neg (by omega), sT_set, if_neg (by omega), sT_w, if_neg (by omega)]
theorem fAPm_new {k : Nat} (hk : k < 9) : sT (fAddPart X true f) 2 k (sn X 2) = match k with
  | 0 => (np X : Nat) | 1 => f | 2 => 100 | 3 => 10 | 7 => (sn X 24 : Nat) | 8 => (sn X 25 : Nat) | _ => 0 := by
  unfold fAddPart
  rw [if_pos rfl]
  unfold kFMade kPartInit2
  simp only [sT_ssE, sT_set, sT_w]
  match k, hk with
  | 0, _ => rfl
  | 1, _ => rfl
  | 2, _ => rfl
  | 3, _ => rfl
  | 4, _ => rfl
  | 5, _ => rfl
  | 6, _ => rfl
  | 7, _ => rfl
  | 8, _ => rfl
theorem fAPm_E24 {i : Nat} : sE (fAddPart X true f) 24 i = if i = sn X 24 then [] else sE X 24 i := by
  unfold fAddPart
  rw [if_pos rfl]
  unfold kFMade kPartInit2
  rw [sE_ssE, if_neg (by omega), sE_set, sE_w, if_neg (by omega), sE_set, sE_w]
  have e : sn (sset (sset (sset (sset (snw X 2 []) 2 2 (sn X 2) 100) 2 3 (sn X 2) 10) 2 0 (sn X 2) ((sE X 21 0).length : Nat)) 2 1 (sn X 2) f) 24 = sn X 24 := rfl
  rw [e]
  by_cases h : i = sn X 24
  · rw [if_pos ⟨rfl, h⟩, if_pos h]
  · rw [if_neg (fun w => h w.2), if_neg h, sE_set, sE_set, sE_set, sE_set, sE_w, if_neg (by omega)]
theorem fAPm_E25 {i : Nat} : sE (fAddPart X true f) 25 i = if i = sn X 25 then [] else sE X 25 i := by
  unfold fAddPart
  rw [if_pos rfl]
  unfold kFMade kPartInit2
  rw [sE_ssE, if_neg (by omega), sE_set, sE_w]
  by_cases h : i = sn X 25
  · rw [if_pos ⟨rfl, h⟩, if_pos h]
  · rw [if_neg (fun w => h w.2), if_neg h, sE_set, sE_w, if_neg (by omega), sE_set, sE_set, sE_set, sE_set, sE_w, if_neg (by omega)]
theorem fAPb_old {k i : Nat} (h : i ≠ sn X 3) : sT (fAddPart X false f) 3 k i = sT X 3 k i := by
  unfold fAddPart
  rw [if_neg (by decide)]
  unfold kFBought kPartInit3
  rw [sT_ssE, sT_set, if_neg (by omega), sT_set, if_neg (by omega), sT_set, if_neg (by omega), sT_set, if_neg (by omega), sT_w, if_neg (by omega)]
theorem fAPb_new {k : Nat} (hk : k < 7) : sT (fAddPart X false f) 3 k (sn X 3) = match k with
  | 0 => (np X : Nat) | 1 => f | 2 => 100 | 3 => 10 | _ => 0 := by
  unfold fAddPart
  rw [if_neg (by decide)]
  unfold kFBought kPartInit3
  simp only [sT_ssE, sT_set, sT_w]
  match k, hk with
  | 0, _ => rfl
  | 1, _ => rfl
  | 2, _ => rfl
  | 3, _ => rfl
  | 4, _ => rfl
  | 5, _ => rfl
  | 6, _ => rfl
def mAP (Y : hS) (c : Bool) (f : Int) : hS := ssE (kMPart (snw (mt Y 0) 13 []) (sn Y 13) (bi c) f) 31 0 (sE Y 31 0 ++ [(sn Y 13 : Int)])
theorem mAP_ceq {c : Bool} {d : Nat} (h11 : d ≠ 11) (h13 : d ≠ 13) (h31 : d ≠ 31) (h36 : d ≠ 36) (h37 : d ≠ 37) : ceq Y (mAP Y c f) d := by
  unfold mAP kMPart
  exact ((((((((((ceq.refl.set h11).snw h13).snw h36).set h13).snw h37).set h13).set h13).set h13).set h13).set h13).ssE h31
theorem mAP_11 {c : Bool} {k i : Nat} (hk : k ≠ 0) : sT (mAP Y c f) 11 k i = sT Y 11 k i := by
  unfold mAP kMPart
  rw [sT_ssE, sT_set, if_neg (by omega), sT_set, if_neg (by omega), sT_set, if_neg (by omega), sT_set, if_neg (by omega), sT_set, if_neg (by omega), sT_w, if_neg (by omega), sT_set, if_neg (by omega), sT_w, if_neg (by omega), sT_w, if_neg (by omega), sT_set, if_neg (by omega)]
theorem mAP_thrown {c : Bool} : sT (mAP Y c f) 11 0 0 = 0 := by
  unfold mAP kMPart
  rw [sT_ssE, sT_set, if_neg (by omega), sT_set, if_neg (by omega), sT_set, if_neg (by omega), sT_set, if_neg (by omega), sT_set, if_neg (by omega), sT_w, if_neg (by omega), sT_set, if_neg (by omega), sT_w, if_neg (by omega), sT_w, if_neg (by omega), sT_set, if_pos ⟨rfl, rfl, rfl⟩]
theorem mAP_old {c : Bool} {k i : Nat} (h : i ≠ sn Y 13) : sT (mAP Y c f) 13 k i = sT Y 13 k i := by
  unfold mAP kMPart
  rw [sT_ssE, sT_set, if_neg (by omega), sT_set, if_neg (by omega), sT_set, if_neg (by omega), sT_set, if_neg (by omega), sT_set, if_neg (by omega), sT_w, if_neg (by omega), sT_set, if_neg (by omega), sT_w, if_neg (by omega), sT_w, if_neg (fun w => h w.2), sT_set, if_neg (by omega)]
theorem mAP_new {c : Bool} {k : Nat} (hk : k < 9) : sT (mAP Y c f) 13 k (sn Y 13) = match k with
  | 0 => bi c | 1 => f | 2 => (sn Y 36 : Nat) | 3 => (sn Y 37 : Nat) | 4 => 100 | 5 => 10 | _ => 0 := by
  unfold mAP kMPart
  have e : sn (mt Y 0) 13 = sn Y 13 := rfl
  simp only [sT_ssE, sT_set, sT_w, e]
  match k, hk with
  | 0, _ => rfl
  | 1, _ => rfl
  | 2, _ => rfl
  | 3, _ => rfl
  | 4, _ => rfl
  | 5, _ => rfl
  | 6, _ => rfl
  | 7, _ => rfl
  | 8, _ => rfl
theorem mAP_E36 {c : Bool} {i : Nat} : sE (mAP Y c f) 36 i = if i = sn Y 36 then [] else sE Y 36 i := by
  unfold mAP kMPart
  rw [sE_ssE, if_neg (by omega), sE_set, sE_set, sE_set, sE_set, sE_set, sE_w, if_neg (by omega), sE_set, sE_w]
  have e : sn (snw (mt Y 0) 13 []) 36 = sn Y 36 := rfl
  rw [e]
  by_cases h : i = sn Y 36
  · rw [if_pos ⟨rfl, h⟩, if_pos h]
  · rw [if_neg (fun w => h w.2), if_neg h, sE_w, if_neg (by omega), sE_set]
theorem mAP_E37 {c : Bool} {i : Nat} : sE (mAP Y c f) 37 i = if i = sn Y 37 then [] else sE Y 37 i := by
  unfold mAP kMPart
  rw [sE_ssE, if_neg (by omega), sE_set, sE_set, sE_set, sE_set, sE_set, sE_w]
  have e : sn (sset (snw (snw (mt Y 0) 13 []) 36 []) 13 2 (sn Y 13) (sn (snw (mt Y 0) 13 []) 36 : Nat)) 37 = sn Y 37 := rfl
  rw [e]
  by_cases h : i = sn Y 37
  · rw [if_pos ⟨rfl, h⟩, if_pos h]
  · rw [if_neg (fun w => h w.2), if_neg h, sE_set, sE_w, if_neg (by omega), sE_w, if_neg (by omega), sE_set]
theorem mAP_shape {c : Bool} (hS : mShape Y) (hn : sn Y 13 < 12) : mShape (mAP Y c f) := by
  obtain ⟨s1, s2, s3, s4, s5⟩ := hS
  have g := fun (d : Nat) (h : d ≠ 11 ∧ d ≠ 13 ∧ d ≠ 31 ∧ d ≠ 36 ∧ d ≠ 37) => mAP_ceq (Y := Y) (c := c) (f := f) h.1 h.2.1 h.2.2.1 h.2.2.2.1 h.2.2.2.2
  obtain ⟨t1, t2, t3, t4, t5, t6⟩ := s5
  refine ⟨?_, ?_, ?_, ?_, ?_⟩
  · unfold mFix at s1 ⊢
    obtain ⟨x1, x2, x3, x4, x5, x6, x7, x8, x9, x10, x11, x12, x13, x14, x15⟩ := s1
    rw [mAP_11 (by decide), mAP_11 (by decide), mAP_11 (by decide), mAP_11 (by decide), mAP_11 (by decide), mAP_11 (by decide), (g 30 (by decide)).2.2, (g 32 (by decide)).2.2, (g 33 (by decide)).2.2, (g 12 (by decide)).1, (g 14 (by decide)).1, (g 15 (by decide)).1]
    refine ⟨x1, x2, x3, x4, x5, x6, x7, x8, ?_, x10, x11, x12, ?_, x14, x15⟩
    · show sE (mAP Y c f) 31 0 = idl (sn Y 13 + 1)
      unfold mAP
      rw [sE_ssE, if_pos ⟨rfl, rfl⟩, idl_succ, x9]
    · show sn Y 13 + 1 ≤ 12
      omega
  · intro p hp
    have hp : p < sn Y 13 + 1 := hp
    rw [mAP_E36, mAP_E37, (g 46 (by decide)).1]
    by_cases e : p = sn Y 13
    · have n := fun (k : Nat) (hk : k < 9) => (congrArg (fun i => sT (mAP Y c f) 13 k i) e).trans (mAP_new (c := c) (f := f) hk)
      rw [if_pos (by omega), if_pos (by omega)]
      refine ⟨(n 2 (by decide)).trans (by show ((sn Y 36 : Nat) : Int) = p; omega), (n 3 (by decide)).trans (by show ((sn Y 37 : Nat) : Int) = p; omega), fun _ => ⟨rfl, rfl⟩, fun j hj => absurd hj List.not_mem_nil, fun j hj => absurd hj List.not_mem_nil⟩
    · rw [if_neg (by omega), if_neg (by omega), mAP_old e, mAP_old e, mAP_old e]
      exact s2 p (by omega)
  · simp only [(g 14 (by decide)).1, (g 14 (by decide)).2.1, (g 41 (by decide)).2.2]
    exact s3
  · simp only [(g 15 (by decide)).1, (g 15 (by decide)).2.1, (g 12 (by decide)).1]
    exact s4
  · refine ⟨?_, ?_, ?_, ?_, ?_, ?_⟩
    · show sn Y 36 + 1 = sn Y 13 + 1
      omega
    · show sn Y 37 + 1 = sn Y 13 + 1
      omega
    · rw [(g 41 (by decide)).1, (g 14 (by decide)).1]; exact t3
    · rw [(g 38 (by decide)).1, (g 15 (by decide)).1]; exact t4
    · rw [(g 39 (by decide)).1, (g 15 (by decide)).1]; exact t5
    · rw [(g 40 (by decide)).1, (g 15 (by decide)).1]; exact t6
theorem mBox.cg (hB : mBox Y) (m15 : sn Y' 15 = sn Y 15) (m19 : ceq Y Y' 19) (m39 : ceq Y Y' 39) : mBox Y' := by
  unfold mBox at hB ⊢
  simp only [m19.1, m19.2.1, m15, m39.2.2]
  exact hB
theorem pairAP {c : Bool} (hR : rR z X Y) (hI : iAll z k X) (hS : mShape Y) (hok : 0 ≤ f ∧ f ≤ 3) (hn : np X < 12) : rR z (fAddPart X c f) (mAP Y c f) ∧ iAll z k (fAddPart X c f) := by
  have g := fun (d : Nat) (h : d ≠ 11 ∧ d ≠ 13 ∧ d ≠ 31 ∧ d ≠ 36 ∧ d ≠ 37) => mAP_ceq (Y := Y) (c := c) (f := f) h.1 h.2.1 h.2.2.1 h.2.2.2.1 h.2.2.2.2
  have u := fun (d : Nat) (h : d ≠ 2 ∧ d ≠ 3 ∧ d ≠ 21 ∧ d ≠ 24 ∧ d ≠ 25) => fAP_ceq (X := X) (c := c) (f := f) h.1 h.2.1 h.2.2.1 h.2.2.2.1 h.2.2.2.2
  have hG := fAP_gr (X := X) (f := f) (c := c)
  have h13 : sn Y 13 = np X := hR.P.1
  have hsh := hS.2.2.2.2
  have hpt := hI.pt
  have n24 : sn X 24 = sn X 2 := hpt.2.1
  have n25 : sn X 25 = sn X 2 := hpt.2.2.1
  -- old parts
  have old : ∀ p : Nat, p < np X → ∀ k : Nat, sT (fAddPart X c f) (pcl X p) k (pix X p) = sT X (pcl X p) k (pix X p) := by
    intro p hp k
    have hx := (hpt.1 p hp).2.1
    have hc : pcl X p = 2 ∨ pcl X p = 3 := by unfold pcl; omega
    rcases hc with e | e
    · rw [e] at hx ⊢
      cases c with
      | true => exact fAPm_old (by omega)
      | false => exact (fAP_bought (by decide) (by decide)).2.1 _ _
    · rw [e] at hx ⊢
      cases c with
      | true => exact fAP_made3.2.1 _ _
      | false => exact fAPb_old (by omega)
  have opcl : ∀ p : Nat, p < np X → pcl (fAddPart X c f) p = pcl X p := fun p hp => by unfold pcl; rw [fAP_pc hp]
  have opix : ∀ p : Nat, p < np X → pix (fAddPart X c f) p = pix X p := fun p hp => by unfold pix; rw [fAP_pc hp]
  have ncl : pcl (fAddPart X c f) (np X) = if c = true then 2 else 3 := by
    unfold pcl
    rw [fAP_pcn]
    cases c
    · show 2 + (2 * sn X 3 + 1) % 2 = 3
      omega
    · show 2 + (2 * sn X 2) % 2 = 2
      omega
  have nix : pix (fAddPart X c f) (np X) = if c = true then sn X 2 else sn X 3 := by
    unfold pix
    rw [fAP_pcn]
    cases c
    · show (2 * sn X 3 + 1) / 2 = sn X 3
      omega
    · show 2 * sn X 2 / 2 = sn X 2
      omega
  have npar : fPc (fAddPart X c f) (np X : Nat) % 2 = if c = true then 0 else 1 := by
    rw [fAP_pcn]
    cases c
    · show (2 * sn X 3 + 1) % 2 = 1
      omega
    · show 2 * sn X 2 % 2 = 0
      omega
  have nT : ∀ k : Nat, k < 7 → sT (fAddPart X c f) (pcl (fAddPart X c f) (np X)) k (pix (fAddPart X c f) (np X)) = match k with
      | 0 => (np X : Nat) | 1 => f | 2 => 100 | 3 => 10 | _ => 0 := by
    intro k hk
    rw [ncl, nix]
    cases c with
    | true =>
      refine (fAPm_new (by omega)).trans ?_
      match k, hk with
      | 0, _ => rfl
      | 1, _ => rfl
      | 2, _ => rfl
      | 3, _ => rfl
      | 4, _ => rfl
      | 5, _ => rfl
      | 6, _ => rfl
    | false =>
      refine (fAPb_new hk).trans ?_
      match k, hk with
      | 0, _ => rfl
      | 1, _ => rfl
      | 2, _ => rfl
      | 3, _ => rfl
      | 4, _ => rfl
      | 5, _ => rfl
      | 6, _ => rfl
  refine ⟨⟨?_, ?_, ?_, hR.L.gr hG (u 6 (by decide)) (u 7 (by decide)) (u 26 (by decide)) (g 14 (by decide)) (g 41 (by decide)), hR.O.gr hG (u 7 (by decide)) (u 8 (by decide)) (u 26 (by decide)) (u 27 (by decide)) (g 15 (by decide)) (g 19 (by decide)) (g 38 (by decide)) (g 39 (by decide)) (g 40 (by decide)), ?_, ?_⟩, ?_⟩
  · have hg := hR.G
    unfold rG at hg ⊢
    rw [mAP_11 (by decide), mAP_11 (by decide), (u 0 (by decide)).2.1, (u 0 (by decide)).2.1]
    exact hg
  · exact rM_congr (fun k i => (u 1 (by decide)).2.1 k i) (u 1 (by decide)).1 (fun k i => (g 12 (by decide)).2.1 k i) (g 12 (by decide)).1 hR.M
  · refine ⟨by rw [fAP_np]; show sn Y 13 + 1 = np X + 1; omega, fun p hp => ?_⟩
    rw [fAP_np] at hp
    by_cases e : p = np X
    · have n := fun (k : Nat) (hk : k < 9) => (congrArg (fun i => sT (mAP Y c f) 13 k i) (show p = sn Y 13 by omega)).trans (mAP_new (c := c) (f := f) hk)
      have nX0 : ∀ k : Nat, sT (fAddPart X c f) (pcl (fAddPart X c f) p) k (pix (fAddPart X c f) p) = sT (fAddPart X c f) (pcl (fAddPart X c f) (np X)) k (pix (fAddPart X c f) (np X)) := fun k => by rw [e]
      have nX := fun (k : Nat) (hk : k < 7) => (nX0 k).trans (nT k hk)
      have par : fPc (fAddPart X c f) (p : Nat) % 2 = if c = true then 0 else 1 := by rw [e]; exact npar
      refine ⟨?_, (n 1 (by decide)).trans (nX 1 (by decide)).symm, (n 4 (by decide)).trans (nX 2 (by decide)).symm, (n 5 (by decide)).trans (nX 3 (by decide)).symm, (n 6 (by decide)).trans (nX 5 (by decide)).symm, (n 7 (by decide)).trans (nX 6 (by decide)).symm, (n 8 (by decide)).trans (nX 4 (by decide)).symm, fun hq => ?_⟩
      · rw [par]
        refine (n 0 (by decide)).trans ?_
        cases c <;> rfl
      · rw [par] at hq
        cases c with
        | false => exact absurd hq (by decide)
        | true =>
          have ei : pix (fAddPart X true f) p = sn X 2 := by rw [e]; exact nix
          unfold rCs rOs
          rw [mAP_E36, mAP_E37, if_pos (by omega), if_pos (by omega), ei, fAPm_E24, fAPm_E25, if_pos n24.symm, if_pos n25.symm]
          exact ⟨rfl, rfl⟩
    · have hp : p < np X := by omega
      have h := hR.P.2 p hp
      rw [opcl p hp, opix p hp, fAP_pc hp, mAP_old (by omega), mAP_old (by omega), mAP_old (by omega), mAP_old (by omega), mAP_old (by omega), mAP_old (by omega), mAP_old (by omega), old p hp, old p hp, old p hp, old p hp, old p hp, old p hp]
      refine ⟨h.1, h.2.1, h.2.2.1, h.2.2.2.1, h.2.2.2.2.1, h.2.2.2.2.2.1, h.2.2.2.2.2.2.1, fun hq => ?_⟩
      obtain ⟨w1, w2⟩ := h.2.2.2.2.2.2.2 hq
      unfold rCs at w1 ⊢
      unfold rOs at w2 ⊢
      have hx : pix X p < sn X 2 := by
        rcases hpt.pc hp with ⟨q1, q2, -⟩ | ⟨q1, q2, -⟩
        · exact q2
        · omega
      have e24 : sE (fAddPart X c f) 24 (pix X p) = sE X 24 (pix X p) := by
        cases c with
        | true => rw [fAPm_E24, if_neg (by omega)]
        | false => exact (fAP_bought (by decide) (by decide)).2.2 _
      have e25 : sE (fAddPart X c f) 25 (pix X p) = sE X 25 (pix X p) := by
        cases c with
        | true => rw [fAPm_E25, if_neg (by omega)]
        | false => exact (fAP_bought (by decide) (by decide)).2.2 _
      rw [mAP_E36, mAP_E37, if_neg (by omega), if_neg (by omega), opix p hp, e24, e25]
      simp only [(g 46 (by decide)).2.2, (u 4 (by decide)).2.1, (u 5 (by decide)).2.1]
      exact ⟨w1, w2⟩
  · exact rQ_congr (fun m _ => (u 45 (by decide)).2.2 m) (u 1 (by decide)).1 (u 8 (by decide)).1 (fun o _ => ⟨(g 15 (by decide)).2.1 5 o, (g 15 (by decide)).2.1 10 o⟩) hR.Q
  · exact rS_congr (fun x _ => ⟨(u 28 (by decide)).2.2 x, (u 9 (by decide)).2.1 0 x⟩) (fun d i hd => (g d (by omega)).2.2 i) (g 35 (by decide)).1 hR.S
  · obtain ⟨i1, i2, i3, i4, i5, i6, i7, i8, i9, i10, i11, i12, i13, i14⟩ := hI
    refine ⟨?_, ?_, i3.cg (u 0 (by decide)) (u 1 (by decide)) (u 45 (by decide)).1, i4.gr hG (u 6 (by decide)) (u 7 (by decide)) (u 26 (by decide)), i5.cg (u 6 (by decide)).1 (u 7 (by decide)) (u 26 (by decide)) (u 27 (by decide)), i6.gr hG (u 6 (by decide)) (u 8 (by decide)) (u 26 (by decide)).1 (u 27 (by decide)).1, i7.cg (u 6 (by decide)) (u 8 (by decide)), ?_, i9.cg (u 6 (by decide)) (u 7 (by decide)) (u 8 (by decide)) (u 26 (by decide)) (u 27 (by decide)), i10.cg (u 0 (by decide)) (u 6 (by decide)) (u 7 (by decide)) (u 8 (by decide)) (u 27 (by decide)), i11.cg (u 6 (by decide)) (u 7 (by decide)) (u 8 (by decide)) (u 26 (by decide)), i12.cg (u 8 (by decide)) (u 26 (by decide)) (u 27 (by decide)), i13.cg (u 0 (by decide)) (u 6 (by decide)).1 (u 8 (by decide)) (u 28 (by decide)), i14.cg (u 9 (by decide)) (u 28 (by decide)) (u 48 (by decide))⟩
    · unfold fFix at i1 ⊢
      obtain ⟨x1, x2, x3, x4, x5, x6, x7, x8, x9, x10, x11, x12, x13, x14⟩ := i1
      have f0 := u 0 (by decide)
      rw [f0.1, f0.2.1, f0.2.1, f0.2.1, f0.2.1, f0.2.1, (u 20 (by decide)).2.2, (u 22 (by decide)).2.2, (u 23 (by decide)).2.2, (u 1 (by decide)).1, (u 6 (by decide)).1, (u 8 (by decide)).1]
      refine ⟨x1, x2, x3, x4, x5, x6, x7, x8, x9, x10, x11, x12, ?_, ?_⟩
      · have := fAP_np (X := X) (f := f) (c := c)
        show np (fAddPart X c f) ≤ 12
        omega
      · intro x hx
        rw [fAP_21] at hx
        rcases List.mem_append.mp hx with hx | hx
        · exact x14 x hx
        · rw [List.mem_singleton] at hx
          rw [hx]
          split <;> exact Int.natCast_nonneg _
    · obtain ⟨a1, a2, a3, a4, a5, a6, a7, a8, a9⟩ := i2
      have n2 : sn (fAddPart X c f) 2 = if c = true then sn X 2 + 1 else sn X 2 := by cases c <;> rfl
      have n3 : sn (fAddPart X c f) 3 = if c = true then sn X 3 else sn X 3 + 1 := by cases c <;> rfl
      have n24' : sn (fAddPart X c f) 24 = if c = true then sn X 24 + 1 else sn X 24 := by cases c <;> rfl
      have n25' : sn (fAddPart X c f) 25 = if c = true then sn X 25 + 1 else sn X 25 := by cases c <;> rfl
      have T2 : ∀ k i : Nat, i < sn X 2 → sT (fAddPart X c f) 2 k i = sT X 2 k i := by
        intro k i hi
        cases c with
        | true => exact fAPm_old (by omega)
        | false => exact (fAP_bought (by decide) (by decide)).2.1 _ _
      have T3 : ∀ k i : Nat, i < sn X 3 → sT (fAddPart X c f) 3 k i = sT X 3 k i := by
        intro k i hi
        cases c with
        | true => exact fAP_made3.2.1 _ _
        | false => exact fAPb_old (by omega)
      have E24 : ∀ i : Nat, i < sn X 2 → sE (fAddPart X c f) 24 i = sE X 24 i := by
        intro i hi
        cases c with
        | true => rw [fAPm_E24, if_neg (by omega)]
        | false => exact (fAP_bought (by decide) (by decide)).2.2 _
      have E25 : ∀ i : Nat, i < sn X 2 → sE (fAddPart X c f) 25 i = sE X 25 i := by
        intro i hi
        cases c with
        | true => rw [fAPm_E25, if_neg (by omega)]
        | false => exact (fAP_bought (by decide) (by decide)).2.2 _
      refine ⟨fun p hp => ?_, by rw [n24', n2]; split <;> omega, by rw [n25', n2]; split <;> omega, fun i hi => ?_, fun d i hd hi => ?_, fun i hi => ?_, ?_, fun i hi => ?_, ?_⟩
      · rw [fAP_np] at hp
        by_cases e : p = np X
        · rw [e]
          refine ⟨?_, ?_, ?_⟩
          · rw [fAP_21, List.getD_eq_getElem?_getD]
            show 0 ≤ ((sE X 21 0 ++ [_])[(sE X 21 0).length]?.getD 0)
            rw [List.getElem?_append_right (Nat.le_refl _), Nat.sub_self]
            cases c <;> exact Int.natCast_nonneg _
          · rw [ncl, nix]
            cases c
            · exact Nat.lt_succ_self _
            · exact Nat.lt_succ_self _
          · exact nT 0 (by decide)
        · have hp : p < np X := by omega
          obtain ⟨w1, w2, w3⟩ := a1 p hp
          refine ⟨?_, ?_, ?_⟩
          · rw [fAP_21, List.getD_eq_getElem?_getD, List.getElem?_append_left hp, ← List.getD_eq_getElem?_getD]
            exact w1
          · rw [opcl p hp, opix p hp]
            have hc : pcl X p = 2 ∨ pcl X p = 3 := by unfold pcl; omega
            rcases hc with e2 | e2
            · rw [e2] at w2 ⊢
              rw [n2]
              split <;> omega
            · rw [e2] at w2 ⊢
              rw [n3]
              split <;> omega
          · rw [opcl p hp, opix p hp, old p hp]
            exact w3
      · by_cases hi2 : i < sn X 2
        · rw [T2 7 i hi2, T2 8 i hi2, E24 i hi2, E25 i hi2]
          exact a4 i hi2
        · rw [n2] at hi
          cases c with
          | false =>
            have hi : i < sn X 2 := hi
            omega
          | true =>
            have hi : i < sn X 2 + 1 := hi
            obtain rfl : i = sn X 2 := by omega
            rw [fAPm_E24, fAPm_E25, if_pos n24.symm, if_pos n25.symm]
            refine ⟨(fAPm_new (by decide)).trans ?_, (fAPm_new (by decide)).trans ?_, Nat.zero_le _, Nat.zero_le _⟩
            · show ((sn X 24 : Nat) : Int) = (sn X 2 : Nat)
              omega
            · show ((sn X 25 : Nat) : Int) = (sn X 2 : Nat)
              omega
      · rcases hd with rfl | rfl
        · by_cases hi2 : i < sn X 2
          · simp only [T2 _ i hi2]
            exact a5 2 i (Or.inl rfl) hi2
          · rw [n2] at hi
            cases c with
            | false =>
              have hi : i < sn X 2 := hi
              omega
            | true =>
              have hi : i < sn X 2 + 1 := hi
              obtain rfl : i = sn X 2 := by omega
              rw [fAPm_new (by decide), fAPm_new (by decide), fAPm_new (by decide), fAPm_new (by decide), fAPm_new (by decide), fAPm_new (by decide)]
              exact ⟨hok, (show (0 : Int) ≤ 100 ∧ (100 : Int) ≤ 1000 by decide), (show (0 : Int) ≤ 10 ∧ (10 : Int) ≤ 500 by decide), ⟨Int.le_refl _, Int.natCast_nonneg _⟩, ⟨Int.le_refl _, Int.natCast_nonneg _⟩, ⟨Int.le_refl _, Int.natCast_nonneg _⟩⟩
        · by_cases hi3 : i < sn X 3
          · simp only [T3 _ i hi3]
            exact a5 3 i (Or.inr rfl) hi3
          · rw [n3] at hi
            cases c with
            | true =>
              have hi : i < sn X 3 := hi
              omega
            | false =>
              have hi : i < sn X 3 + 1 := hi
              obtain rfl : i = sn X 3 := by omega
              rw [fAPb_new (by decide), fAPb_new (by decide), fAPb_new (by decide), fAPb_new (by decide), fAPb_new (by decide), fAPb_new (by decide)]
              exact ⟨hok, (show (0 : Int) ≤ 100 ∧ (100 : Int) ≤ 1000 by decide), (show (0 : Int) ≤ 10 ∧ (10 : Int) ≤ 500 by decide), ⟨Int.le_refl _, Int.natCast_nonneg _⟩, ⟨Int.le_refl _, Int.natCast_nonneg _⟩, ⟨Int.le_refl _, Int.natCast_nonneg _⟩⟩
      · by_cases hi2 : i < sn X 2
        · rw [E24 i hi2, T2 0 i hi2, (u 4 (by decide)).1]
          simp only [(u 4 (by decide)).2.1]
          exact a6 i hi2
        · rw [n2] at hi
          cases c with
          | false =>
            have hi : i < sn X 2 := hi
            omega
          | true =>
            have hi : i < sn X 2 + 1 := hi
            obtain rfl : i = sn X 2 := by omega
            rw [fAPm_E24, if_pos n24.symm]
            exact fun j hj => absurd hj List.not_mem_nil
      · intro j hj
        rw [(u 4 (by decide)).1] at hj
        have w := a7 j hj
        have hnp := fAP_np (X := X) (f := f) (c := c)
        simp only [(u 4 (by decide)).2.1]
        omega
      · by_cases hi2 : i < sn X 2
        · rw [E25 i hi2, (u 5 (by decide)).1]
          exact a8 i hi2
        · rw [n2] at hi
          cases c with
          | false =>
            have hi : i < sn X 2 := hi
            omega
          | true =>
            have hi : i < sn X 2 + 1 := hi
            obtain rfl : i = sn X 2 := by omega
            rw [fAPm_E25, if_pos n25.symm]
            exact fun j hj => absurd hj List.not_mem_nil
      · unfold fOps at a9 ⊢
        simp only [(u 5 (by decide)).1, (u 5 (by decide)).2.1, (u 1 (by decide)).1]
        exact a9
    · obtain ⟨a1, a2, a3⟩ := i8
      have u8 := u 8 (by decide)
      have hq : ∀ j : Nat, j < sn X 8 → fQok X j → fQok (fAddPart X c f) j := fun j hj h => by
        obtain ⟨-, ⟨p, p1, p2⟩, -⟩ := i6 j hj
        have hm := h.1.2
        have hx : (sT X 8 1 j).toNat / 2 < sn X 2 := by
          rw [p2, Int.toNat_natCast] at hm ⊢
          rcases hpt.pc p1 with ⟨q1, q2, -⟩ | ⟨q1, q2, -⟩
          · exact q2
          · omega
        have e8 : sT (fAddPart X c f) 2 8 ((sT X 8 1 j).toNat / 2) = sT X 2 8 ((sT X 8 1 j).toNat / 2) := by
          cases c with
          | true => exact fAPm_old (by omega)
          | false => exact (fAP_bought (by decide) (by decide)).2.1 _ _
        have h8 := (i2.2.2.2.1 _ hx).2.1
        have e25 : sE (fAddPart X c f) 25 (fOpL X j) = sE X 25 (fOpL X j) := by
          unfold fOpL
          rw [h8, Int.toNat_natCast]
          cases c with
          | true => rw [fAPm_E25, if_neg (by omega)]
          | false => exact (fAP_bought (by decide) (by decide)).2.2 _
        have eo : fOpL (fAddPart X c f) j = fOpL X j := by
          unfold fOpL
          rw [u8.2.1, e8]
        unfold fQok at h ⊢
        rw [u8.2.1, u8.2.1, u8.2.1, eo, e25]
        exact h
      refine ⟨fun m hm x hx => ?_, fun m hm => ?_, fun m w hm hw => ?_⟩
      · rw [(u 1 (by decide)).1] at hm
        rw [(u 45 (by decide)).2.2] at hx
        obtain ⟨b1, b2, b3, b4⟩ := a1 m hm x hx
        rw [u8.1, u8.2.1]
        exact ⟨b1, b2, b3, hq _ (by omega) b4⟩
      · rw [(u 1 (by decide)).1] at hm
        obtain ⟨b1, b2⟩ := a2 m hm
        rw [(u 1 (by decide)).2.1, (u 1 (by decide)).2.1, u8.1, u8.2.1]
        refine ⟨b1, fun h => ?_⟩
        obtain ⟨d1, d2, d3, d4⟩ := b2 h
        exact ⟨d1, d2, d3, hq _ (by omega) d4⟩
      · rw [(u 1 (by decide)).1] at hm hw
        rw [(u 1 (by decide)).2.1, (u 1 (by decide)).2.1]
        exact a3 m w hm hw
end ZBP1
section ZBQ
variable {g : zG} {w0 : hG} {z : Nat → Nat} {a m ol od k scr n i : Nat} {sf : Nat → Int32} {S : hS} {gh : Nat → Nat → Nat} {J : zw_W} {σ : zS} {Q : Option Value ⊕ String → zS → Prop}
def pAP (S S2 : hS) (c : Bool) (f : Int) : Prop := (∃ v : Int, S2 = mt S v) ∨ ((0 ≤ f ∧ f ≤ 3) ∧ np S < 12 ∧ S2 = mAP (fAddPart S c f) c f)
theorem fAP_mfr {c : Bool} {f : Int} : mfr S (fAddPart S c f) := by
  unfold fAddPart
  cases c with
  | true =>
    rw [if_pos rfl]
    unfold kFMade kPartInit2
    exact ((((((((mfr.refl.snw (by decide)).set (by decide)).set (by decide)).set (by decide)).set (by decide)).snw (by decide)).set (by decide)).snw (by decide)).set (by decide) |>.ssE (by decide)
  | false =>
    rw [if_neg (by decide)]
    unfold kFBought kPartInit3
    exact (((((mfr.refl.snw (by decide)).set (by decide)).set (by decide)).set (by decide)).set (by decide)).ssE (by decide)
theorem mAP_ffr {Y : hS} {c : Bool} {f : Int} : ffr Y (mAP Y c f) := by
  unfold mAP kMPart
  exact ((((((((((ffr.mt).snw (by decide)).snw (by decide)).set (by decide)).snw (by decide)).set (by decide)).set (by decide)).set (by decide)).set (by decide)).set (by decide)).ssE (by decide)
theorem fAP_le {c : Bool} {f : Int} : ∀ d : Nat, sn S d ≤ sn (fAddPart S c f) d := by
  intro d
  cases c with
  | true =>
    show _ ≤ sn (snw (snw (snw S 2 []) 24 []) 25 []) d
    exact Nat.le_trans sn_w_le (Nat.le_trans sn_w_le sn_w_le)
  | false =>
    show _ ≤ sn (snw S 3 []) d
    exact sn_w_le
theorem mAP_le {Y : hS} {c : Bool} {f : Int} : ∀ d : Nat, sn Y d ≤ sn (mAP Y c f) d := by
  intro d
  show _ ≤ sn (snw (snw (snw (mt Y 0) 13 []) 36 []) 37 []) d
  exact Nat.le_trans (sn_w_le (S := mt Y 0)) (Nat.le_trans sn_w_le sn_w_le)
theorem tS1 (L : lSt g w0 z a m ol od k S gh J σ) (hs : w0.1 scr = some (.inl (8, n, .inl sf))) (hlt : scr < zg_n g) (hi : i + 5 < n) (hn : n ≤ 1000)
    (hQ : ∀ (S2 : hS) (gh2 : Nat → Nat → Nat) (J2 : zw_W) (σ2 : zS), pAP S S2 (decide (scw sf i 1 ≠ 0)) (scw sf i 2) → lSt g w0 z a m ol od (k + 1) S2 gh2 J2 σ2 → kc σ σ2 8 120 → tW g 1600 2441 (tLV scr a m ol od i) [] σ2 Q) : tW g 1600 292 (tLV scr a m ol od i) [] σ Q := by
  have L0 := L
  obtain ⟨H, ⟨f, hf⟩, ⟨fd, hfd⟩, ha, hm, hC, hR, hI, hS, hB⟩ := L
  have hne := ol_ne hf hfd
  have h2 : rg (scw sf i 2) := rg_scw
  have hn13 : sn S 13 = np S := hR.P.1
  have h12 := np_le hI
  have hmS := hS.fr (fAP_mfr (S := S) (c := decide (scw sf i 1 ≠ 0)) (f := scw sf i 2))
  by_cases hok : 0 ≤ scw sf i 2 ∧ scw sf i 2 ≤ 3
  · by_cases hf5 : np S = 12
    · obtain ⟨σ1, r1, H1, k1⟩ := F_addPartB (z := decide (scw sf i 1 ≠ 0)) H hI.fix ha h2 hok hf5
      have p1 := Lh_addPartX2 (d := 9) (b := ol) H ha r1 (by omega)
      obtain ⟨σ2, p2, ghx, hgx, H2, e2⟩ := M_addPart (z := decide (scw sf i 1 ≠ 0)) H1 hS.1 hm h2
      have eT : mAddPartT S (scw sf i 2) = 2 := by
        unfold mAddPartT
        rw [if_neg (fun q => q hok), if_pos (by omega)]
      unfold mAddPart at H2
      rw [eT, if_neg (by decide)] at p2 H2
      refine tC1 (f := f) H hs hlt hi hn p1 (by decide) H1 hm p2 (by decide) (by decide) H2 (hgx.hat (S1 := mt S 2) (fun _ => Nat.le_refl _) hm) ⟨by decide, by decide⟩ ⟨by decide, by decide⟩ (by rw [sT_set, if_pos ⟨rfl, rfl, rfl⟩]) (fun e => absurd e (by decide)) ?_
      refine hQ _ _ _ σ2 (Or.inl ⟨2, rfl⟩) (L0.quiet ffr.refl mfr.refl hgx (fun _ => Nat.le_refl _) H2 ⟨f, hf⟩ ⟨fd, hfd⟩) ?_
      exact (k1.trans e2).mono (by omega) (by omega)
    · obtain ⟨σ0, r1, gh1, hg1, H0, k0⟩ := F_addPart (z := decide (scw sf i 1 ≠ 0)) H hI.fix ha h2 hok (show np S < 12 by omega)
      have hlen : (sE S 21 0).length = np S := rfl
      obtain ⟨σ1, p1, H1, e1⟩ := Lh_addPart (d := 9) H ha r1 (by omega) H0 hf ⟨by omega, by omega⟩
      have hm1 := hg1.hat (fAP_le (c := decide (scw sf i 1 ≠ 0)) (f := scw sf i 2)) hm
      obtain ⟨σ2, p2, gh2, hg2, H2, e2⟩ := M_addPart (z := decide (scw sf i 1 ≠ 0)) H1 hmS.1 hm1 h2
      have e13 : sn (fAddPart S (decide (scw sf i 1 ≠ 0)) (scw sf i 2)) 13 = np S := ((fAP_mfr (S := S) (c := decide (scw sf i 1 ≠ 0)) (f := scw sf i 2)).1 13 (by decide)).trans hn13
      have eT : mAddPartT (fAddPart S (decide (scw sf i 1 ≠ 0)) (scw sf i 2)) (scw sf i 2) = 0 := by
        unfold mAddPartT
        rw [if_neg (fun q => q hok), if_neg (by omega)]
      unfold mAddPart at H2
      rw [eT, if_pos rfl] at p2 H2
      rw [e13] at p2
      obtain ⟨q1, q2⟩ := pairAP (c := decide (scw sf i 1 ≠ 0)) (hR.frY hS hB fAP_mfr) hI hmS hok (by omega)
      have q3 := mAP_shape (c := decide (scw sf i 1 ≠ 0)) (f := scw sf i 2) hmS (by omega)
      have hBm := hB.fr (fAP_mfr (S := S) (c := decide (scw sf i 1 ≠ 0)) (f := scw sf i 2))
      have q4 := hBm.cg (Y' := mAP (fAddPart S (decide (scw sf i 1 ≠ 0)) (scw sf i 2)) (decide (scw sf i 1 ≠ 0)) (scw sf i 2)) (mAP_ceq (by decide) (by decide) (by decide) (by decide) (by decide)).1 (mAP_ceq (by decide) (by decide) (by decide) (by decide) (by decide)) (mAP_ceq (by decide) (by decide) (by decide) (by decide) (by decide))
      have hg : gext S gh gh2 := hg1.trans hg2 fAP_le
      refine tC1 H hs hlt hi hn p1 (by decide) H1 hm1 p2 (by decide) (by decide) H2 (hg2.hat mAP_le hm1) ⟨by decide, by decide⟩ ⟨by omega, by omega⟩ (mAP_thrown) (fun _ => ⟨zw_up_same _ _ _, va_up_self _ _ _⟩) ?_
      refine hQ _ _ _ σ2 (Or.inr ⟨hok, by omega, rfl⟩) (L0.chg hg (fun c => Nat.le_trans (fAP_le c) (mAP_le c)) q1 (q2.mono (Nat.le_succ _)) q3 q4 mAP_ffr H2 ⟨_, zw_up_same _ _ _⟩ ⟨fd, (zw_up_ne _ _ hne).trans hfd⟩) ?_
      exact ((k0.trans (kc.of e1)).trans e2).mono (by omega) (by omega)
  · obtain ⟨σ1, r1, H1, k1⟩ := F_addPartA (z := decide (scw sf i 1 ≠ 0)) (a := a) H h2 hok
    have p1 := Lh_addPartX1 (d := 9) (b := ol) H ha r1 (by omega)
    obtain ⟨σ2, p2, ghx, hgx, H2, e2⟩ := M_addPart (z := decide (scw sf i 1 ≠ 0)) H1 hS.1 hm h2
    have eT : mAddPartT S (scw sf i 2) = 1 := by
      unfold mAddPartT
      rw [if_pos hok]
    unfold mAddPart at H2
    rw [eT, if_neg (by decide)] at p2 H2
    refine tC1 (f := f) H hs hlt hi hn p1 (by decide) H1 hm p2 (by decide) (by decide) H2 (hgx.hat (S1 := mt S 1) (fun _ => Nat.le_refl _) hm) ⟨by decide, by decide⟩ ⟨by decide, by decide⟩ (by rw [sT_set, if_pos ⟨rfl, rfl, rfl⟩]) (fun e => absurd e (by decide)) ?_
    refine hQ _ _ _ σ2 (Or.inl ⟨1, rfl⟩) (L0.quiet ffr.refl mfr.refl hgx (fun _ => Nat.le_refl _) H2 ⟨f, hf⟩ ⟨fd, hfd⟩) ?_
    exact (k1.trans e2).mono (by omega) (by omega)
end ZBQ
