/-! THE ROOM: what grows and what stays, from call to call -/
set_option maxRecDepth 100000
/-- X' is X some calls later: lots, pieces, orders, components stay what they are, lists grow; the list of a released order and that of a delivered one stay -/
def gW (z : Nat → Nat) (X X' : hS) : Prop :=
  (sn X 6 ≤ sn X' 6 ∧ ∀ j l : Nat, l < sn X 6 → j < 4 → sT X' 6 j l = sT X 6 j l) ∧
  (sn X 7 ≤ sn X' 7 ∧ ∀ j t : Nat, t < sn X 7 → j < 2 → sT X' 7 j t = sT X 7 j t) ∧
  (sn X 8 ≤ sn X' 8 ∧ ∀ j o : Nat, o < sn X 8 → j < 7 → sT X' 8 j o = sT X 8 j o) ∧
  (sn X 4 ≤ sn X' 4 ∧ ∀ j c : Nat, c < sn X 4 → sT X' 4 j c = sT X 4 j c) ∧
  (sn X 2 ≤ sn X' 2 ∧ ∀ j i : Nat, i < sn X 2 → j = 0 ∨ j = 7 → sT X' 2 j i = sT X 2 j i) ∧
  (sn X 3 ≤ sn X' 3 ∧ ∀ i : Nat, i < sn X 3 → sT X' 3 0 i = sT X 3 0 i) ∧
  pgr X X' ∧ (∀ i : Nat, i < sn X 2 → ∃ ys : List Int, sE X' 24 i = sE X 24 i ++ ys) ∧
  (∀ o s : Nat, o < sn X 8 → 2 ≤ s → s < 6 → sT X 8 7 o = (z s : Nat) → (∃ s' : Nat, (2 ≤ s' ∧ (4 ≤ s → s ≤ s')) ∧ s' < 6 ∧ sT X' 8 7 o = (z s' : Nat)) ∧ sE X' 26 (fOL X o) = sE X 26 (fOL X o) ∧ sT X' 8 8 o ≤ sT X 8 8 o ∧ (0 ≤ sT X 8 13 o → sT X' 8 13 o = sT X 8 13 o)) ∧
  (∀ o : Nat, o < sn X 8 → sT X 8 7 o = (z 5 : Nat) → sE X' 27 (fDelL X o) = sE X 27 (fDelL X o)) ∧
  ∀ l : Nat, l < sn X 6 → sE X' 26 (sT X 6 3 l).toNat = sE X 26 (sT X 6 3 l).toNat
/-- the invariants that the room needs beside the others -/
def iRm (z : Nat → Nat) (X : hS) : Prop := iDj X ∧ iLt z X ∧ iCk X
section ZD0
variable {z : Nat → Nat} {k o l : Nat} {X X' X2 : hS}
theorem gW.refl : gW z X X := ⟨⟨Nat.le_refl _, fun _ _ _ _ => rfl⟩, ⟨Nat.le_refl _, fun _ _ _ _ => rfl⟩, ⟨Nat.le_refl _, fun _ _ _ _ => rfl⟩, ⟨Nat.le_refl _, fun _ _ _ => rfl⟩, ⟨Nat.le_refl _, fun _ _ _ _ => rfl⟩, ⟨Nat.le_refl _, fun _ _ => rfl⟩, ⟨Nat.le_refl _, fun _ _ => rfl⟩, fun _ _ => ⟨[], (List.append_nil _).symm⟩, fun o s _ _ h6 h => ⟨⟨s, ⟨by omega, fun _ => Nat.le_refl _⟩, h6, h⟩, rfl, Int.le_refl _, fun _ => rfl⟩, fun _ _ _ => rfl, fun _ _ => rfl⟩
theorem gW.oL (h : gW z X X') (ho : o < sn X 8) : fOL X' o = fOL X o := congrArg Int.toNat (h.2.2.1.2 5 o ho (by decide))
theorem gW.dL (h : gW z X X') (ho : o < sn X 8) : fDelL X' o = fDelL X o := congrArg Int.toNat (h.2.2.1.2 6 o ho (by decide))
theorem gW.trans (h : gW z X X') (g : gW z X' X2) : gW z X X2 := by
  have h0 := h
  obtain ⟨⟨a1, a2⟩, ⟨b1, b2⟩, ⟨c1, c2⟩, ⟨d1, d2⟩, ⟨e1, e2⟩, ⟨f1, f2⟩, p1, p2, p3, p4, p5⟩ := h
  obtain ⟨⟨A1, A2⟩, ⟨B1, B2⟩, ⟨C1, C2⟩, ⟨D1, D2⟩, ⟨E1, E2⟩, ⟨F1, F2⟩, P1, P2, P3, P4, P5⟩ := g
  refine ⟨⟨by omega, fun j l hl hj => by rw [A2 j l (by omega) hj, a2 j l hl hj]⟩, ⟨by omega, fun j t ht hj => by rw [B2 j t (by omega) hj, b2 j t ht hj]⟩, ⟨by omega, fun j o ho hj => by rw [C2 j o (by omega) hj, c2 j o ho hj]⟩, ⟨by omega, fun j c hc => by rw [D2 j c (by omega), d2 j c hc]⟩, ⟨by omega, fun j i hi hj => by rw [E2 j i (by omega) hj, e2 j i hi hj]⟩, ⟨by omega, fun i hi => by rw [F2 i (by omega), f2 i hi]⟩, ⟨Nat.le_trans p1.1 P1.1, fun p hp => by rw [P1.2 p (Nat.lt_of_lt_of_le hp p1.1), p1.2 p hp]⟩, fun i hi => ?_, fun o s ho h2 h6 hs => ?_, fun o ho hs => ?_, fun l hl => ?_⟩
  · obtain ⟨x, hx⟩ := p2 i hi
    obtain ⟨y, hy⟩ := P2 i (by omega)
    exact ⟨x ++ y, by rw [hy, hx, List.append_assoc]⟩
  · obtain ⟨⟨s', g1, g2, g3⟩, g4, g5, g6⟩ := p3 o s ho h2 h6 hs
    obtain ⟨⟨s2, k1, k2, k3⟩, k4, k5, k6⟩ := P3 o s' (by omega) (by omega) g2 g3
    rw [h0.oL ho] at k4
    exact ⟨⟨s2, ⟨k1.1, fun w => by have := g1.2 w; have := k1.2 (by omega); omega⟩, k2, k3⟩, k4.trans g4, by omega, fun w => by
      have e := g6 w
      rw [k6 (by omega), e]⟩
  · have g0 := p4 o ho hs
    obtain ⟨⟨s', g1, g2, g3⟩, -⟩ := p3 o 5 ho (by decide) (by decide) hs
    have e5 : s' = 5 := by have := g1.2 (by decide); omega
    rw [e5] at g3
    have k0 := P4 o (by omega) g3
    rw [h0.dL ho] at k0
    exact k0.trans g0
  · have k0 := P5 l (by omega)
    rw [a2 3 l hl (by decide)] at k0
    exact k0.trans (p5 l hl)
/-- what is the same behind many calls -/
def sameW (X X' : hS) : Prop := (sn X' 6 = sn X 6 ∧ ∀ j l : Nat, j < 4 → sT X' 6 j l = sT X 6 j l) ∧ (sn X' 7 = sn X 7 ∧ ∀ j t : Nat, j < 2 → sT X' 7 j t = sT X 7 j t) ∧ (sn X' 8 = sn X 8 ∧ ∀ j o : Nat, j < 9 ∨ j = 13 → sT X' 8 j o = sT X 8 j o) ∧ (sn X' 4 = sn X 4 ∧ ∀ j c : Nat, sT X' 4 j c = sT X 4 j c) ∧
  (sn X' 2 = sn X 2 ∧ ∀ j i : Nat, j = 0 ∨ j = 7 → sT X' 2 j i = sT X 2 j i) ∧ (sn X' 3 = sn X 3 ∧ ∀ i : Nat, sT X' 3 0 i = sT X 3 0 i) ∧ sE X' 21 0 = sE X 21 0 ∧ ∀ c i : Nat, c = 24 ∨ c = 26 ∨ c = 27 → sE X' c i = sE X c i
theorem sameW.gW (h : sameW X X') : gW z X X' := by
  obtain ⟨⟨a1, a2⟩, ⟨b1, b2⟩, ⟨c1, c2⟩, ⟨d1, d2⟩, ⟨e1, e2⟩, ⟨f1, f2⟩, p1, p2⟩ := h
  exact ⟨⟨by omega, fun j l _ hj => a2 j l hj⟩, ⟨by omega, fun j t _ hj => b2 j t hj⟩, ⟨by omega, fun j o _ hj => c2 j o (by omega)⟩, ⟨by omega, fun j c _ => d2 j c⟩, ⟨by omega, fun j i _ hj => e2 j i hj⟩, ⟨by omega, fun i _ => f2 i⟩, pgr.same p1, fun i _ => ⟨[], by rw [p2 24 i (Or.inl rfl), List.append_nil]⟩, fun o s _ _ h6 hs => ⟨⟨s, ⟨by omega, fun _ => Nat.le_refl _⟩, h6, by rw [c2 7 o (by decide)]; exact hs⟩, p2 26 _ (by decide), by rw [c2 8 o (by decide)]; exact Int.le_refl _, fun _ => c2 13 o (by decide)⟩, fun o _ _ => p2 27 _ (by decide), fun l _ => p2 26 _ (by decide)⟩
theorem fPnum_gW (h : gW z X X') (hI : iLo X) (hP : iPt k X) (hl : l < sn X 6) : fPnum X' l = fPnum X l := by
  have e1 := h.1.2 1 l hl (by decide)
  have e : fLp X' l = fLp X l := congrArg Int.toNat e1
  obtain ⟨p, hp, e2⟩ := (hI l hl).2.1
  have eLp : fLp X l = fPc X p := by
    show (sT X 6 1 l).toNat = _
    rw [e2, Int.toNat_natCast]
  unfold fPnum
  rw [e, eLp]
  rcases hP.pc hp with ⟨q1, q2, q3⟩ | ⟨q1, q2, q3⟩
  · rw [q1]
    exact h.2.2.2.2.1.2 0 _ q2 (Or.inl rfl)
  · rw [q1]
    exact h.2.2.2.2.2.1.2 _ q2
end ZD0
