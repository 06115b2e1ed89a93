/-! THE SIMULATION: an order joins a machine's queue -/
set_option maxRecDepth 100000
section ZBV2
variable {z : Nat → Nat} {k o m : Nat} {X Y : hS}
abbrev fGq (z : Nat → Nat) (X : hS) (o m : Nat) : hS := ssE (sset X 8 7 o (z 2 : Nat)) 45 m ((o : Int) :: sE X 45 m)
abbrev mGq (Y : hS) (o m : Nat) : hS := sset (sset Y 15 10 o (m : Nat)) 15 5 o 119
theorem pairGoQ (hz : zInj z) (hR : rR z X Y) (hI : iAll z k (sset X 8 7 o (z 2 : Nat))) (hS : mShape Y) (hB : mBox Y) (ho : o < sn X 8) (hs : ∃ s : Nat, s < 4 ∧ s ≠ 2 ∧ sT X 8 7 o = (z s : Nat)) (hmd : (sT X 8 1 o).toNat % 2 = 0) (hl : (sT X 8 9 o).toNat < (sE X 25 (fOpL X o)).length) (hm : m < sn X 1) :
    rR z (fGq z X o m) (mGq Y o m) ∧ iAll z k (fGq z X o m) ∧ mShape (mGq Y o m) ∧ mBox (mGq Y o m) := by
  obtain ⟨s, s4, s2, hs7⟩ := hs
  have h12 : sn Y 12 = sn X 1 := hR.M.1
  have u : ∀ c : Nat, c ≠ 8 ∧ c ≠ 45 → ceq X (fGq z X o m) c := fun c hc => (ceq.refl.set hc.1).ssE hc.2
  have w : ∀ c : Nat, c ≠ 45 → ceq (sset X 8 7 o (z 2 : Nat)) (fGq z X o m) c := fun c hc => ceq.refl.ssE hc
  have g : ∀ c : Nat, c ≠ 15 → ceq Y (mGq Y o m) c := fun c hc => (ceq.refl.set hc).set hc
  have v : ∀ j q : Nat, ¬ (j = 7 ∧ q = o) → sT (fGq z X o m) 8 j q = sT X 8 j q := fun j q hj => by rw [sT_ssE, sT_set, if_neg (by omega)]
  have vo : sT (fGq z X o m) 8 7 o = (z 2 : Nat) := by rw [sT_ssE, sT_set, if_pos ⟨rfl, rfl, rfl⟩]
  have m15 : ∀ j q : Nat, ¬ ((j = 5 ∨ j = 10) ∧ q = o) → sT (mGq Y o m) 15 j q = sT Y 15 j q := fun j q hj => by rw [sT_set, if_neg (by omega), sT_set, if_neg (by omega)]
  have m5 : sT (mGq Y o m) 15 5 o = 119 := by rw [sT_set, if_pos ⟨rfl, rfl, rfl⟩]
  have m10 : sT (mGq Y o m) 15 10 o = (m : Nat) := by rw [sT_set, if_neg (by omega), sT_set, if_pos ⟨rfl, rfl, rfl⟩]
  have q45 : ∀ j : Nat, sE (fGq z X o m) 45 j = if j = m then (o : Int) :: sE X 45 m else sE X 45 j := fun j => by
    rw [sE_ssE]
    by_cases e : j = m
    · rw [if_pos ⟨rfl, e⟩, if_pos e]
    · rw [if_neg (fun x => e x.2), if_neg e]; rfl
  obtain ⟨s1, b1, b2, b3, b4, b5⟩ := (hR.O.2 o ho).2.1.1
  have es : s1 = s := hz s1 s (by omega) (by omega) (by omega)
  subst es
  have h119 : sT Y 15 5 o ≠ 119 := by
    rw [b3]
    have := stL_cases b1
    omega
  have notin : ∀ j : Nat, j < sn X 1 → (o : Int) ∉ sE X 45 j := fun j hj h => by
    have h2 := ((hR.Q j hj).2 (o : Int)).mp h
    rw [Int.toNat_natCast] at h2
    exact h119 h2.2.2.1
  refine ⟨⟨hR.G, hR.M, ?_, ?_, ?_, ?_, ?_⟩, ?_, ?_, hB⟩
  · exact rP_congr (fun c k i hc => (u c (by omega)).2.1 k i) (fun c i hc => (u c (by omega)).2.2 i) (fun k i => (g 13 (by decide)).2.1 k i) (fun c i hc => rfl) rfl hR.P
  · exact hR.L.gr (pgr.same rfl) (u 6 (by decide)) (u 7 (by decide)) (u 26 (by decide)) (g 14 (by decide)) (g 41 (by decide))
  · refine ⟨hR.O.1, fun q hq => ?_⟩
    obtain ⟨g1, g2, g3, g4⟩ := hR.O.2 q hq
    refine ⟨rOa_congr (fun j hj => v j q (by omega)) rfl (fun j hj => m15 j q (by omega)) g1, ?_, ⟨g3.1, g3.2⟩, ?_⟩
    · by_cases e : q = o
      · subst e
        refine ⟨⟨2, by decide, vo, m5, ?_, ?_⟩, ?_, ?_, ?_, ?_⟩
        · rw [m15 13 q (by omega), b4, if_neg (by omega), if_neg (by omega)]
        · rw [m15 14 q (by omega), b5, if_neg (by omega), if_neg (by decide)]
        · rw [m15 8 q (by omega), v 8 q (by omega)]; exact g2.2.1
        · rw [m15 9 q (by omega), v 9 q (by omega)]; exact g2.2.2.1
        · rw [m15 11 q (by omega), v 10 q (by omega)]; exact g2.2.2.2.1
        · rw [m15 12 q (by omega), v 13 q (by omega)]; exact g2.2.2.2.2
      · exact rOb_congr (fun j hj => v j q (by omega)) (fun j hj => m15 j q (by omega)) g2
    · exact rD_congr (congrArg Int.toNat (v 6 q (by omega))) rfl (fun t _ => ⟨rfl, rfl⟩) rfl (m15 15 q (by omega)) g4
  · intro j hj
    have hj : j < sn X 1 := hj
    obtain ⟨a1, a2⟩ := hR.Q j hj
    rw [q45]
    show (if j = m then (o : Int) :: sE X 45 m else sE X 45 j).Nodup ∧ ∀ x : Int, x ∈ (if j = m then (o : Int) :: sE X 45 m else sE X 45 j) ↔ 0 ≤ x ∧ x < sn X 8 ∧ _
    by_cases e : j = m
    · subst e
      rw [if_pos rfl]
      refine ⟨List.nodup_cons.mpr ⟨notin j hj, a1⟩, fun x => ?_⟩
      rw [List.mem_cons]
      by_cases ex : x = (o : Int)
      · subst ex
        rw [Int.toNat_natCast, m5, m10]
        exact ⟨fun _ => ⟨by omega, by omega, rfl, rfl⟩, fun _ => Or.inl rfl⟩
      · constructor
        · rintro (h | h)
          · exact absurd h ex
          · obtain ⟨c1, c2, c3, c4⟩ := (a2 x).mp h
            rw [m15 5 _ (by omega), m15 10 _ (by omega)]
            exact ⟨c1, c2, c3, c4⟩
        · rintro ⟨c1, c2, c3, c4⟩
          rw [m15 5 _ (by omega)] at c3
          rw [m15 10 _ (by omega)] at c4
          exact Or.inr ((a2 x).mpr ⟨c1, c2, c3, c4⟩)
    · rw [if_neg e]
      refine ⟨a1, fun x => (a2 x).trans ?_⟩
      by_cases ex : x.toNat = o
      · rw [ex, m5, m10]
        constructor
        · rintro ⟨c1, c2, c3, c4⟩; exact absurd c3 h119
        · rintro ⟨c1, c2, c3, c4⟩; omega
      · rw [m15 5 _ (by omega), m15 10 _ (by omega)]
  · exact rS_congr (fun x _ => ⟨rfl, (u 9 (by decide)).2.1 0 x⟩) (fun c i hc => rfl) rfl hR.S
  · obtain ⟨i1, i2, i3, i4, i5, i6, i7, i8, i9, i10, i11, i12, i13, i14⟩ := hI
    have iv8 := i6 o ho
    refine ⟨i1, i2.cg (w 2 (by decide)) (w 3 (by decide)) (w 4 (by decide)) (w 5 (by decide)) (w 21 (by decide)) (w 24 (by decide)) (w 25 (by decide)) (Nat.le_refl _), i3.cg (w 0 (by decide)) (w 1 (by decide)) rfl, i4.cg (w 6 (by decide)) (w 7 (by decide)) (w 21 (by decide)) (w 26 (by decide)), i5.cg rfl (w 7 (by decide)) (w 26 (by decide)) (w 27 (by decide)), i6.cg (w 6 (by decide)) (w 8 (by decide)) (w 21 (by decide)) rfl rfl, i7.cg (w 6 (by decide)) (w 8 (by decide)), ?_, i9.cg (w 6 (by decide)) (w 7 (by decide)) (w 8 (by decide)) (w 26 (by decide)) (w 27 (by decide)), i10.cg (w 0 (by decide)) (w 6 (by decide)) (w 7 (by decide)) (w 8 (by decide)) (w 27 (by decide)), i11.cg (w 6 (by decide)) (w 7 (by decide)) (w 8 (by decide)) (w 26 (by decide)), i12.cg (w 8 (by decide)) (w 26 (by decide)) (w 27 (by decide)), i13.cg (w 0 (by decide)) rfl (w 8 (by decide)) (w 28 (by decide)), i14.cg (w 9 (by decide)) (w 28 (by decide)) (w 48 (by decide))⟩
    obtain ⟨a1, a2, a3⟩ := i8
    refine ⟨fun j hj x hx => ?_, a2, a3⟩
    rw [q45] at hx
    have hold : ∀ x ∈ sE X 45 j, 0 ≤ x ∧ x < sn X 8 ∧ sT (fGq z X o m) 8 7 x.toNat = (z 2 : Nat) ∧ fQok (fGq z X o m) x.toNat := fun x hx => a1 j hj x hx
    by_cases e : j = m
    · rw [if_pos e] at hx
      rcases List.mem_cons.mp hx with h | h
      · rw [h, Int.toNat_natCast]
        refine ⟨by omega, by show ((o : Nat) : Int) < (sn X 8 : Nat); omega, vo, ?_⟩
        have h9 : 0 ≤ sT X 8 9 o ∧ sT X 8 9 o ≤ 3 := iv8.2.2.2.2.2.2.2.2.2.1
        have h8 : 0 ≤ sT X 8 8 o ∧ sT X 8 8 o ≤ 100 := iv8.2.2.2.2.2.2.2.2.1
        have h1 : 0 ≤ sT X 8 1 o := by
          obtain ⟨p, -, e1⟩ := iv8.2.1
          have e1 : sT X 8 1 o = (fPc X (p : Nat) : Nat) := e1
          rw [e1]; exact Int.natCast_nonneg _
        exact ⟨⟨h1, hmd⟩, ⟨h9.1, hl, by show sT X 8 9 o ≤ 1000; omega⟩, h8⟩
      · exact hold x (by rw [e]; exact h)
    · rw [if_neg e] at hx
      exact hold x hx
  · obtain ⟨y1, y2, y3, y4, y5⟩ := hS
    refine ⟨y1, y2, y3, fun q hq => ?_, y5⟩
    obtain ⟨w1, w2, w3, w4, w5, w6⟩ := y4 q hq
    rw [m15 0 q (by omega), m15 6 q (by omega), m15 7 q (by omega), m15 16 q (by omega)]
    have h5 := (hI.fix).2.2.2.2.2.2.2.2.2.1
    have h5 : sn X 1 ≤ 5 := h5
    by_cases e : q = o
    · rw [e] at w1 w2 w3 w4 ⊢
      rw [m10, m5]
      refine ⟨w1, w2, w3, w4, ⟨by omega, by omega⟩, fun _ => ⟨by omega, ?_⟩⟩
      show ((m : Nat) : Int) < (sn Y 12 : Nat)
      omega
    · rw [m15 10 q (by omega), m15 5 q (by omega)]
      exact ⟨w1, w2, w3, w4, w5, w6⟩
end ZBV2
