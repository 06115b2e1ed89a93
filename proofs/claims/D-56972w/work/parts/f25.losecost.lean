/-! THE ROOM: what holds and measurings cost on Foundrymark's side -/
set_option maxRecDepth 100000
section ZF25
variable {z : Nat → Nat} {k : Nat} {X T : hS}
theorem tN_less {ch ch' : Nat → List Nat} (h : ∀ i : Nat, ch' i = ch i ∨ ch' i = []) : ∀ n i : Nat, tN ch' n i ≤ tN ch n i := by
  intro n
  induction n with
  | zero => intro i; exact Nat.le_refl _
  | succ n ih =>
    intro i
    show 1 + ((ch' i).map (tN ch' n)).sum ≤ 1 + ((ch i).map (tN ch n)).sum
    rcases h i with e | e
    · rw [e]
      have : ∀ L : List Nat, (L.map (tN ch' n)).sum ≤ (L.map (tN ch n)).sum := by
        intro L
        induction L with
        | nil => exact Nat.le_refl _
        | cons y L ihL =>
          have := ih y
          rw [List.map_cons, List.sum_cons, List.map_cons, List.sum_cons]
          omega
      have := this (ch i)
      omega
    · rw [e]
      show 1 + 0 ≤ _
      omega
/-- lots, pieces, lists and stages while promises are lost -/
theorem lose_st : ∀ n : Nat, (∀ j l : Nat, j < 4 → sT (fLoseN z X n).1 6 j l = sT X 6 j l) ∧ (∀ j t : Nat, sT (fLoseN z X n).1 7 j t = sT X 7 j t) ∧ ∀ q : Nat, sT (fLoseN z X n).1 8 7 q = sT X 8 7 q ∨ sT (fLoseN z X n).1 8 7 q = (z 0 : Nat) := by
  intro n
  induction n with
  | zero => exact ⟨fun _ _ _ => rfl, fun _ _ => rfl, fun _ => Or.inl rfl⟩
  | succ n ih =>
    obtain ⟨a, b, c⟩ := ih
    have sF : fLoseN z X (n + 1) = fLoseStep z (fLoseN z X n) n := fLoseN_succ'
    unfold fLoseStep at sF
    cases e : fLoses z (fLoseN z X n).1 n with
    | false =>
      rw [e, if_neg (by decide)] at sF
      rw [sF]; exact ⟨a, b, c⟩
    | true =>
      rw [e, if_pos rfl] at sF
      rw [sF]
      refine ⟨fun j l hj => (show sT (fFr z (fLoseN z X n).1 n) 6 j l = _ from (fFr_sT (by omega) (by omega)).trans (a j l hj)), fun j t => (show sT (fFr z (fLoseN z X n).1 n) 7 j t = _ from (fFr_sT (by omega) (by omega)).trans (b j t)), fun q => ?_⟩
      show sT (fFr z (fLoseN z X n).1 n) 8 7 q = _ ∨ sT (fFr z (fLoseN z X n).1 n) 8 7 q = _
      by_cases w : q = n
      · rw [w]; exact Or.inr fFr_87
      · rw [fFr_sT (by omega) (by omega)]
        exact c q
end ZF25
