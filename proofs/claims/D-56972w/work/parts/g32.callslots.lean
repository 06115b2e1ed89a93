/-! SLOTS: a call's, four a cell and what its lists' growth takes -/
set_option maxRecDepth 100000
def phC (n : Nat) : Nat := phS n + 3130
theorem phD_phS (n : Nat) : phD n ≤ phS n + 700 := by
  have h : 15 * n ≤ n * n + 56 := by
    rcases Nat.lt_or_ge n 8 with w | w
    · have : ∀ m : Fin 8, 15 * m.val ≤ m.val * m.val + 56 := by decide
      exact this ⟨n, w⟩
    · obtain ⟨m, rfl⟩ := Nat.exists_eq_add_of_le w
      have e : (8 + m) * (8 + m) = 64 + 16 * m + m * m := by
        rw [Nat.add_mul, Nat.mul_add, Nat.mul_add]
        omega
      omega
  have e1 : (n + 1) * (n + 1) = n * n + 2 * n + 1 := sq1 n
  have e2 : (2 * n + 4) * (2 * n + 4) = 4 * (n * n) + 16 * n + 16 := by
    have a : 2 * n * (2 * n) = 4 * (n * n) := by rw [Nat.mul_mul_mul_comm]
    rw [Nat.add_mul, Nat.mul_add, Nat.mul_add]
    omega
  unfold phD phS phF phM
  omega
section ZG32
variable {z : Nat → Nat} {k x s : Nat} {S S2 : hS}
theorem Ev_s (hz : zInj z) (h1 : gd z k S) (hk : k ≤ 1000) (h : Ev z S S2 x s) : s ≤ 4 * x + phC (sn S 6) ∨ ∃ e : Nat, pAd z S S2 e ∧ x = 4010 + 7 * e ∧ s = 16010 + 1820 * e := by
  obtain ⟨hr, hI, hS, hB, hR⟩ := h1
  unfold phC
  rcases h with h | h | h | h | h | h | h | h | h | h | h | h | h | h | h | h | h | h | h | h | h
  · left; obtain ⟨-, a, b⟩ := h; omega
  · left; obtain ⟨-, v, a, b⟩ := h; omega
  · left; obtain ⟨-, u, v, a, b⟩ := h; omega
  · left; obtain ⟨-, v, a, b⟩ := h; omega
  · left; obtain ⟨-, v, a, b⟩ := h; omega
  · left; obtain ⟨-, a, b⟩ := h; omega
  · left; obtain ⟨-, a, b⟩ := h; omega
  · left; obtain ⟨-, a, b⟩ := h; omega
  · left; obtain ⟨-, a, b⟩ := h; omega
  · left; obtain ⟨-, a, b⟩ := h; omega
  · left; obtain ⟨-, a, b⟩ := h; omega
  · left; obtain ⟨v, on, -, a, b⟩ := h; omega
  · left; obtain ⟨-, a, b⟩ := h; omega
  · left; obtain ⟨v, w, -, a, b⟩ := h; omega
  · left; obtain ⟨-, a, b⟩ := h; omega
  · left
    obtain ⟨v, -, a, b⟩ := h
    have := nPrS' hz hr hI hS hB v
    omega
  · left; obtain ⟨-, a, b⟩ := h; omega
  · left
    obtain ⟨v, hp, a, b⟩ := h
    have hD : iDj S := hR.1.1
    have := nRlS (v := v) hz hr hI hD hS hB hk
    omega
  · left; obtain ⟨-, a, b⟩ := h; omega
  · right
    exact h
  · left
    obtain ⟨v, -, a, b⟩ := h
    have := nDlS (v := v) hr hI hS hB
    have := phD_phS (sn S 6)
    omega
end ZG32
