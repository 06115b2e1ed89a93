/-! THE ROOM: a structure's number is concave in its pieces; tables between their grid's points -/
set_option maxRecDepth 100000
section ZG24
variable {c : Nat → Nat → Nat} {b cap : Nat → Nat}
theorem min_conc {c g R k : Nat} (h : g ≤ R) : g * min (c * R) k ≤ R * min (c * g) k := by
  rcases Nat.le_total (c * g) k with h1 | h1
  · have e : min (c * g) k = c * g := Nat.min_eq_left h1
    rw [e]
    refine Nat.le_trans (Nat.mul_le_mul_left g (Nat.min_le_left _ _)) (Nat.le_of_eq ?_)
    rw [Nat.mul_left_comm g c R, Nat.mul_left_comm R c g, Nat.mul_comm g R]
  · have e : min (c * g) k = k := Nat.min_eq_right h1
    rw [e]
    refine Nat.le_trans (Nat.mul_le_mul_left g (Nat.min_le_right _ _)) (Nat.mul_le_mul_right k h)
theorem ho_zero : ∀ A : Nat, ho c b cap A 0 = 0 := fun A => Nat.le_zero.mp (by have := ho_le (c := c) (b := b) (cap := cap) A 0; rw [Nat.mul_zero] at this; exact this)
/-- what a load makes grows slower than the load -/
theorem ho_conc : ∀ (A g R : Nat), g ≤ R → g * ho c b cap A R ≤ R * ho c b cap A g := by
  intro A
  induction A using Nat.strongRecOn with
  | ind A ih =>
    intro g R h
    rw [ho_rec A R, ho_rec A g, ← ns_mul, ← ns_mul]
    refine ns_le (fun B hB => ?_)
    by_cases hp : 0 < c A B ∧ 0 < b B
    · rw [if_pos hp, if_pos hp, Nat.mul_add g, Nat.mul_add g, Nat.mul_add R, Nat.mul_add R]
      have e1 : g * ((b B - 1) * R * (1 + ao c b B)) = R * ((b B - 1) * g * (1 + ao c b B)) := by
        simp only [Nat.mul_comm, Nat.mul_left_comm, Nat.mul_assoc]
      have h2 : g * min (c A B * R) (cap B) ≤ R * min (c A B * g) (cap B) := min_conc h
      have h3 : min (c A B * g) (cap B) ≤ min (c A B * R) (cap B) := by
        have := Nat.mul_le_mul_left (c A B) h
        omega
      have h4 := ih B hB _ _ h3
      have h5 : g * ho c b cap B (min (c A B * R) (cap B)) ≤ R * ho c b cap B (min (c A B * g) (cap B)) := by
        generalize min (c A B * g) (cap B) = g' at *
        generalize min (c A B * R) (cap B) = R' at *
        by_cases h0 : g' = 0
        · subst h0
          by_cases hg : g = 0
          · rw [hg, Nat.zero_mul]; exact Nat.zero_le _
          · have : R' = 0 := by
              rw [Nat.mul_zero] at h2
              have h2 := Nat.le_zero.mp h2
              rcases Nat.mul_eq_zero.mp h2 with a | a
              · exact absurd a hg
              · exact a
            rw [this, ho_zero, Nat.mul_zero]
            exact Nat.zero_le _
        · refine Nat.le_of_mul_le_mul_left (c := g') ?_ (by omega)
          calc g' * (g * ho c b cap B R') = g * (g' * ho c b cap B R') := Nat.mul_left_comm _ _ _
            _ ≤ g * (R' * ho c b cap B g') := Nat.mul_le_mul_left g h4
            _ = (g * R') * ho c b cap B g' := (Nat.mul_assoc _ _ _).symm
            _ ≤ (R * g') * ho c b cap B g' := Nat.mul_le_mul_right _ h2
            _ = g' * (R * ho c b cap B g') := by rw [Nat.mul_assoc, Nat.mul_left_comm]
      rw [e1]
      exact Nat.add_le_add_left (Nat.add_le_add h2 h5) _
    · rw [if_neg hp, if_neg hp, Nat.mul_zero, Nat.mul_zero]
      exact Nat.le_refl _
end ZG24
