/-! THE ROOM: while nothing was scrapped, a finished order has its own lot, whole -/
set_option maxRecDepth 100000
/-- what holds while nothing was scrapped -/
def i0 (z : Nat → Nat) (X : hS) : Prop := ∀ o : Nat, o < sn X 8 → (sT X 8 1 o).toNat % 2 = 0 → ∀ s : Nat, 2 ≤ s → s < 6 → sT X 8 7 o = (z s : Nat) → sT X 8 8 o = sT X 8 2 o ∧ (4 ≤ s → 0 ≤ sT X 8 13 o ∧ sT X 6 2 (sT X 8 13 o).toNat = sT X 8 2 o)
/-- the stage of a finished or delivered order -/
def fin45 (z : Nat → Nat) (X : hS) (i : Nat) : Prop := sT X 8 7 i = (z 4 : Nat) ∨ sT X 8 7 i = (z 5 : Nat)
/-- what a walk of jobs makes of one order -/
def jb1 (z : Nat → Nat) (X B : hS) (i : Nat) : Prop :=
  (fin45 z X i → sT B 8 7 i = sT X 8 7 i ∧ sT B 8 13 i = sT X 8 13 i ∧ (0 ≤ sT X 8 13 i → sT X 8 13 i < sn X 6 → sT B 6 2 (sT X 8 13 i).toNat = sT X 6 2 (sT X 8 13 i).toNat)) ∧
  (¬ fin45 z X i → sT B 8 7 i = sT X 8 7 i ∨ ((∃ s : Nat, 1 ≤ s ∧ s < 4 ∧ sT X 8 7 i = (z s : Nat)) ∧ (sT X 8 7 i = (z 1 : Nat) → 0 < sT X 8 8 i) ∧ ((∃ s : Nat, 2 ≤ s ∧ s < 4 ∧ sT B 8 7 i = (z s : Nat)) ∨ sT X 8 8 i ≤ 0 ∨ (sT B 8 7 i = (z 4 : Nat) ∧ 0 ≤ sT B 8 13 i ∧ sT B 8 13 i < sn B 6 ∧ sT B 6 2 (sT B 8 13 i).toNat = sT X 8 8 i))))
def jbP (z : Nat → Nat) (X B : hS) : Prop := (sn B 8 = sn X 8 ∧ sn X 6 ≤ sn B 6) ∧ (∀ i : Nat, sT B 8 8 i = sT X 8 8 i ∧ sT B 8 2 i = sT X 8 2 i ∧ sT B 8 1 i = sT X 8 1 i) ∧ ∀ i : Nat, jb1 z X B i
section ZF5
variable {z : Nat → Nat} {k k2 o l : Nat} {X Y S S2 T B : hS}
theorem fin45.no (hz : zInj z) (h : fin45 z X o) {s : Nat} (h3 : s < 4) (hs : sT X 8 7 o = (z s : Nat)) : False := by
  rcases h with w | w
  · have := hz s 4 (by omega) (by decide) (by omega)
    omega
  · have := hz s 5 (by omega) (by decide) (by omega)
    omega
theorem shpC.jb (hz : zInj z) (h : shpC z X B) (hp : iPq X) : jbP z X B := by
  refine h (fun B => jbP z X B) (fun A B g q w => ?_) (fun A o g hs _ w => ?_) hp ⟨⟨rfl, Nat.le_refl _⟩, fun _ => ⟨rfl, rfl, rfl⟩, fun i => ⟨fun _ => ⟨rfl, rfl, fun _ _ => rfl⟩, fun _ => Or.inl rfl⟩⟩
  · obtain ⟨⟨w1, w2⟩, w3, w4⟩ := w
    obtain ⟨q1, q2⟩ := q
    obtain ⟨-, g2, g3, -, -, g6, g7, -⟩ := g
    refine ⟨⟨g6.trans w1, by omega⟩, fun i => ⟨(q1 i).trans (w3 i).1, (g7 2 i (by omega)).trans (w3 i).2.1, (g7 1 i (by omega)).trans (w3 i).2.2⟩, fun i => ⟨fun hf => ?_, fun hf => ?_⟩⟩
    · obtain ⟨a1, a2, a3⟩ := (w4 i).1 hf
      have hA : fin45 z A i := by
        unfold fin45
        rw [a1]; exact hf
      have e7 : sT B 8 7 i = sT A 8 7 i := by
        rcases q2 i with e | ⟨⟨s, s1, s2, s3⟩, -⟩
        · exact e
        · exact (hA.no hz s2 s3).elim
      exact ⟨e7.trans a1, (g7 13 i (by omega)).trans a2, fun h1 h2 => (g3 2 _ (by omega)).trans (a3 h1 h2)⟩
    · rcases (w4 i).2 hf with a | ⟨a1, a2, a3⟩
      · rcases q2 i with e | ⟨b1, b2, b3⟩
        · exact Or.inl (e.trans a)
        · rw [a] at b1 b2
          rw [(w3 i).1] at b2 b3
          refine Or.inr ⟨b1, b2, ?_⟩
          rcases b3 with b3 | b3
          · exact Or.inl b3
          · exact Or.inr (Or.inl b3)
      · refine Or.inr ⟨a1, a2, ?_⟩
        rcases a3 with a3 | a3 | ⟨a3, a4, a5, a6⟩
        · rcases q2 i with e | ⟨-, -, b3⟩
          · rw [← e] at a3
            exact Or.inl a3
          · rw [(w3 i).1] at b3
            rcases b3 with b3 | b3
            · exact Or.inl b3
            · exact Or.inr (Or.inl b3)
        · exact Or.inr (Or.inl a3)
        · have e7 : sT B 8 7 i = sT A 8 7 i := by
            rcases q2 i with e | ⟨⟨s, s1, s2, s3⟩, -⟩
            · exact e
            · exact ((show fin45 z A i from Or.inl a3).no hz s2 s3).elim
          have e13 := g7 13 i (by omega)
          exact Or.inr (Or.inr ⟨e7.trans a3, by rw [e13]; exact a4, by rw [e13, g2]; exact a5, by rw [e13, g3 2 _ (by omega)]; exact a6⟩)
  · obtain ⟨⟨w1, w2⟩, w3, w4⟩ := w
    obtain ⟨f1, f2, f3, f4, f5, f6, f7⟩ := g
    have t8 : ∀ j q : Nat, j < 7 ∨ j = 8 → sT (fFiB z A o) 8 j q = sT A 8 j q := fun j q hj => fB_8 (by omega)
    have t13 : ∀ j q : Nat, q ≠ o → sT (fFiB z A o) 8 j q = sT A 8 j q := fun j q hq => fB_8 (by omega)
    refine ⟨⟨fB_n8.trans w1, by rw [fB_n6]; omega⟩, fun i => ⟨(t8 8 i (by omega)).trans (w3 i).1, (t8 2 i (by omega)).trans (w3 i).2.1, (t8 1 i (by omega)).trans (w3 i).2.2⟩, fun i => ⟨fun hf => ?_, fun hf => ?_⟩⟩
    · obtain ⟨a1, a2, a3⟩ := (w4 i).1 hf
      have hA : fin45 z A i := by
        unfold fin45
        rw [a1]; exact hf
      have hio : i ≠ o := by
        rintro rfl
        obtain ⟨s, s1, s2, s3⟩ := hs
        exact hA.no hz s2 s3
      exact ⟨(t13 7 i hio).trans a1, (t13 13 i hio).trans a2, fun h1 h2 => (fB_6 (by omega)).trans (a3 h1 h2)⟩
    · by_cases hio : i = o
      · subst hio
        have hX : (∃ s : Nat, 1 ≤ s ∧ s < 4 ∧ sT X 8 7 i = (z s : Nat)) ∧ (sT X 8 7 i = (z 1 : Nat) → 0 < sT X 8 8 i) := by
          rcases (w4 i).2 hf with a | ⟨a1, a2, -⟩
          · rw [a] at hs
            rw [(w3 i).1] at f3
            exact ⟨hs, fun _ => f3⟩
          · exact ⟨a1, a2⟩
        refine Or.inr ⟨hX.1, hX.2, Or.inr (Or.inr ⟨fB_87', ?_, ?_, ?_⟩)⟩
        · rw [fB_813]; omega
        · rw [fB_813, fB_n6]; omega
        · rw [fB_813, Int.toNat_natCast, fB_6n (j := 2) (by decide)]
          exact (w3 i).1
      · rcases (w4 i).2 hf with a | ⟨a1, a2, a3⟩
        · exact Or.inl ((t13 7 i hio).trans a)
        · refine Or.inr ⟨a1, a2, ?_⟩
          rw [t13 7 i hio, t13 13 i hio]
          rcases a3 with a3 | a3 | ⟨a3, a4, a5, a6⟩
          · exact Or.inl a3
          · exact Or.inr (Or.inl a3)
          · exact Or.inr (Or.inr ⟨a3, a4, by rw [fB_n6]; omega, (fB_6 (by omega)).trans a6⟩)
/-- jobs keep it -/
theorem jbP.i0 (hz : zInj z) (h : jbP z X B) (h13 : ∀ i : Nat, i < sn X 8 → sT X 8 13 i < sn X 6) (h2 : ∀ i : Nat, i < sn X 8 → 1 ≤ sT X 8 2 i) (h1 : ∀ i : Nat, i < sn X 8 → sT X 8 7 i = (z 1 : Nat) → 0 < sT X 8 8 i → sT X 8 8 i = sT X 8 2 i) (hX : i0 z X) : i0 z B := fun o ho hmd s s2 s6 hs => by
  obtain ⟨⟨w1, w2⟩, w3, w4⟩ := h
  obtain ⟨e8, e2, e1⟩ := w3 o
  rw [w1] at ho
  rw [e1] at hmd
  rw [e8, e2]
  have hX' := hX o ho hmd
  by_cases hf : fin45 z X o
  · obtain ⟨a1, a2, a3⟩ := (w4 o).1 hf
    rw [a1] at hs
    obtain ⟨b1, b2⟩ := hX' s s2 s6 hs
    refine ⟨b1, fun h4 => ?_⟩
    obtain ⟨c1, c2⟩ := b2 h4
    rw [a2]
    exact ⟨c1, (a3 c1 (h13 o ho)).trans c2⟩
  · rcases (w4 o).2 hf with a | ⟨⟨t, t1, t2, t3⟩, a2, a3⟩
    · rw [a] at hs
      obtain ⟨b1, b2⟩ := hX' s s2 s6 hs
      refine ⟨b1, fun h4 => (hf ?_).elim⟩
      have : s = 4 ∨ s = 5 := by omega
      rcases this with rfl | rfl
      · exact Or.inl hs
      · exact Or.inr hs
    · have b1 : sT X 8 8 o = sT X 8 2 o := by
        by_cases e : t = 1
        · subst e
          exact h1 o ho t3 (a2 t3)
        · exact (hX' t (by omega) (by omega) t3).1
      refine ⟨b1, fun h4 => ?_⟩
      have hp := h2 o ho
      rcases a3 with ⟨u, u1, u2, u3⟩ | a3 | ⟨a3, a4, a5, a6⟩
      · have := hz u s (by omega) (by omega) (by omega)
        omega
      · omega
      · exact ⟨a4, by rw [a6]; exact b1⟩
end ZF5
