/-! SLOTS: a call's, four a cell and what its lists' growth takes -/
set_option maxRecDepth 100000
def phC (n : Nat) : Nat := phS n + phD n + 3130
section ZG32
variable {z : Nat → Nat} {k x s : Nat} {S S2 : hS}
theorem Ev_s (hz : zInj z) (h1 : gd z k S) (hk : k ≤ 1000) (h : Ev z S S2 x s) : s ≤ 4 * x + phC (sn S 6) ∨ ∃ e : Nat, pAd z S S2 e ∧ x = 4010 + 7 * e ∧ s = 16010 + 1820 * e := by
  obtain ⟨hr, hI, hS, hB, hR⟩ := h1
  unfold phC
  rcases h with h | h | h | h | h | h | h | h | h | h | h | h | h | h | h | h | h | h | h | h | h
  · left; obtain ⟨-, a, b⟩ := h; omega
  · left; obtain ⟨-, v, a, b⟩ := h; omega
  · left; obtain ⟨-, u, v, a, b⟩ := h; omega
  · left; obtain ⟨-, v, a, b⟩ := h; omega
  · left; obtain ⟨-, v, a, b⟩ := h; omega
  · left; obtain ⟨-, a, b⟩ := h; omega
  · left; obtain ⟨-, a, b⟩ := h; omega
  · left; obtain ⟨-, a, b⟩ := h; omega
  · left; obtain ⟨-, a, b⟩ := h; omega
  · left; obtain ⟨-, a, b⟩ := h; omega
  · left; obtain ⟨-, a, b⟩ := h; omega
  · left; obtain ⟨v, on, -, a, b⟩ := h; omega
  · left; obtain ⟨-, a, b⟩ := h; omega
  · left; obtain ⟨v, w, -, a, b⟩ := h; omega
  · left; obtain ⟨-, a, b⟩ := h; omega
  · left
    obtain ⟨v, -, a, b⟩ := h
    have := nPrS' hz hr hI hS hB v
    omega
  · left; obtain ⟨-, a, b⟩ := h; omega
  · left
    obtain ⟨v, hp, a, b⟩ := h
    have hD : iDj S := hR.1.1
    have := nRlS (v := v) hz hr hI hD hS hB hk
    omega
  · left; obtain ⟨-, a, b⟩ := h; omega
  · right
    exact h
  · left
    obtain ⟨v, -, a, b⟩ := h
    have := nDlS (v := v) hr hI hS hB
    omega
end ZG32
