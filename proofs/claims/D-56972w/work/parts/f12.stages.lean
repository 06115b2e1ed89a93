/-! THE ROOM: only a delivery delivers -/
set_option maxRecDepth 100000
section ZF12
variable {z : Nat → Nat} {k k2 o l : Nat} {X Y S S2 T G : hS}
theorem kE.d5 (hz : zInj z) (h : kE z X Y) (_ : ∀ o : Nat, o < sn X 8 → sT Y 8 1 o = sT X 8 1 o) : d5 z X Y := fun o ho h5 => by
  obtain ⟨a, b⟩ := h
  refine ⟨by omega, ?_⟩
  rcases (b o).1 with w | w | w
  · rw [← w]; exact h5
  · have := hz 5 0 (by decide) (by decide) (by omega)
    omega
  · have := hz 5 1 (by decide) (by decide) (by omega)
    omega
theorem jbS.d5 (hz : zInj z) (h : jbS z X Y) : d5 z X Y := fun o ho h5 => by
  obtain ⟨a, -, -, b⟩ := h
  refine ⟨by omega, ?_⟩
  rcases b o with w | ⟨-, s, s2, s5, hs⟩
  · rw [← w]; exact h5
  · have := hz s 5 (by omega) (by decide) (by omega)
    omega
theorem d5.trans (h : d5 z X Y) (g : d5 z Y S) (_ : ∀ o : Nat, o < sn Y 8 → sT S 8 1 o = sT Y 8 1 o) : d5 z X S := fun o ho h5 => by
  obtain ⟨a, b⟩ := g o ho h5
  exact h o a b
theorem d5.ff (h : ffr X Y) : d5 z X Y := fun o ho h5 => by
  rw [h.1 8 (by decide)] at ho
  rw [h.2.1 8 7 _ (by decide)] at h5
  exact ⟨ho, h5⟩
end ZF12
