/-! THE ROOM: flows through the parts (plain law, no program in sight) -/
set_option maxRecDepth 100000
/-- a sum over 0 .. n - 1 -/
def ns : Nat → (Nat → Nat) → Nat
  | 0, _ => 0
  | n + 1, f => ns n f + f n
section ZFL
variable {n m : Nat} {f g : Nat → Nat}
theorem ns_cg : ∀ {n : Nat}, (∀ i : Nat, i < n → f i = g i) → ns n f = ns n g
  | 0, _ => rfl
  | n + 1, h => by
    unfold ns
    rw [ns_cg (fun i hi => h i (by omega)), h n (by omega)]
theorem ns_le : ∀ {n : Nat}, (∀ i : Nat, i < n → f i ≤ g i) → ns n f ≤ ns n g
  | 0, _ => Nat.le_refl _
  | n + 1, h => by
    unfold ns
    have h1 := ns_le (n := n) (fun i hi => h i (by omega))
    have h2 := h n (by omega)
    omega
theorem ns_add : ∀ n : Nat, ns n (fun i => f i + g i) = ns n f + ns n g
  | 0 => rfl
  | n + 1 => by
    show ns n (fun i => f i + g i) + (f n + g n) = (ns n f + f n) + (ns n g + g n)
    rw [ns_add n]; omega
theorem ns_mul (k : Nat) : ∀ n : Nat, ns n (fun i => k * f i) = k * ns n f
  | 0 => rfl
  | n + 1 => by
    show ns n (fun i => k * f i) + k * f n = k * (ns n f + f n)
    rw [ns_mul k n, Nat.mul_add]
theorem ns_zero : ∀ n : Nat, ns n (fun _ => 0) = 0
  | 0 => rfl
  | n + 1 => by
    show ns n (fun _ => 0) + 0 = 0
    rw [ns_zero n]
theorem ns_swap {f : Nat → Nat → Nat} (m : Nat) : ∀ n : Nat, ns n (fun i => ns m (fun j => f i j)) = ns m (fun j => ns n (fun i => f i j))
  | 0 => (ns_zero m).symm
  | n + 1 => by
    show ns n (fun i => ns m (fun j => f i j)) + ns m (fun j => f n j) = ns m (fun j => ns n (fun i => f i j) + f n j)
    rw [ns_swap m n, ← ns_add m]
theorem ns_ge {j : Nat} : ∀ {n : Nat}, j < n → f j ≤ ns n f
  | n + 1, h => by
    unfold ns
    by_cases e : j = n
    · rw [e]; omega
    · have := ns_ge (n := n) (j := j) (by omega)
      omega
theorem ns_one {j v : Nat} : ∀ {n : Nat}, j < n → ns n (fun i => if i = j then v else 0) = v
  | n + 1, h => by
    show ns n (fun i => if i = j then v else 0) + (if n = j then v else 0) = v
    by_cases e : n = j
    · have h0 : ns n (fun i => if i = j then v else 0) = ns n (fun _ => 0) := ns_cg (fun i hi => if_neg (by omega))
      rw [h0, ns_zero, if_pos e]; omega
    · rw [ns_one (n := n) (by omega), if_neg e]; rfl
/-- the sum over those of one part that are in W -/
def pS (n : Nat) (pt : Nat → Nat) (A : Nat) (W : Nat → Bool) (f : Nat → Nat) : Nat := ns n (fun y => if pt y = A ∧ W y = true then f y else 0)
variable {pt : Nat → Nat} {A B : Nat} {W : Nat → Bool}
theorem pS_le (h : ∀ y : Nat, y < n → pt y = A → W y = true → f y ≤ g y) : pS n pt A W f ≤ pS n pt A W g := ns_le (fun i hi => by
  by_cases e : pt i = A ∧ W i = true
  · rw [if_pos e, if_pos e]; exact h i hi e.1 e.2
  · rw [if_neg e]; omega)
theorem pS_cg (h : ∀ y : Nat, y < n → pt y = A → W y = true → f y = g y) : pS n pt A W f = pS n pt A W g := ns_cg (fun i hi => by
  by_cases e : pt i = A ∧ W i = true
  · rw [if_pos e, if_pos e]; exact h i hi e.1 e.2
  · rw [if_neg e, if_neg e])
theorem pS_add : pS n pt A W (fun y => f y + g y) = pS n pt A W f + pS n pt A W g := by
  unfold pS
  rw [← ns_add]
  exact ns_cg (fun i _ => by
    by_cases e : pt i = A ∧ W i = true
    · rw [if_pos e, if_pos e, if_pos e]
    · rw [if_neg e, if_neg e, if_neg e])
theorem pS_mul (k : Nat) : pS n pt A W (fun y => k * f y) = k * pS n pt A W f := by
  unfold pS
  rw [← ns_mul]
  exact ns_cg (fun i _ => by
    by_cases e : pt i = A ∧ W i = true
    · rw [if_pos e, if_pos e]
    · rw [if_neg e, if_neg e]; rfl)
theorem pS_ns {F : Nat → Nat → Nat} : pS n pt A W (fun y => ns m (F y)) = ns m (fun z => pS n pt A W (fun y => F y z)) := by
  unfold pS
  rw [← ns_swap]
  exact ns_cg (fun i _ => by
    by_cases e : pt i = A ∧ W i = true
    · rw [if_pos e]
      exact ns_cg (fun j _ => (if_pos e).symm)
    · rw [if_neg e]
      have h0 : ns m (fun j => if pt i = A ∧ W i = true then F i j else 0) = ns m (fun _ => 0) := ns_cg (fun j _ => if_neg e)
      rw [h0, ns_zero])
/-- a weighted sum by levels -/
theorem pS_lev {u q : Nat → Nat} {nu : Nat} (hu : ∀ V : Nat → Bool, pS n pt A V u ≤ nu + pS n pt A V q) : ∀ (c : Nat) (k : Nat → Nat), (∀ y : Nat, y < n → pt y = A → k y ≤ c) → pS n pt A (fun _ => true) (fun y => k y * u y) ≤ c * nu + pS n pt A (fun _ => true) (fun y => k y * q y) := by
  intro c
  induction c with
  | zero =>
    intro k hk
    have h0 : pS n pt A (fun _ => true) (fun y => k y * u y) = pS n pt A (fun _ => true) (fun _ => 0) := pS_cg (fun y hy e _ => by rw [Nat.le_zero.mp (hk y hy e), Nat.zero_mul])
    have h1 : pS n pt A (fun _ => true) (fun _ : Nat => 0) = 0 := by
      unfold pS
      have : ns n (fun y => if pt y = A ∧ true = true then 0 else 0) = ns n (fun _ => 0) := ns_cg (fun i _ => by split <;> rfl)
      rw [this, ns_zero]
    rw [h0, h1]; omega
  | succ c ih =>
    intro k hk
    have h1 := ih (fun y => k y - 1) (fun y hy e => by have := hk y hy e; show k y - 1 ≤ c; omega)
    have h2 := hu (fun y => decide (0 < k y))
    have s : ∀ v : Nat → Nat, pS n pt A (fun _ => true) (fun y => k y * v y) = pS n pt A (fun _ => true) (fun y => (k y - 1) * v y) + pS n pt A (fun y => decide (0 < k y)) v := fun v => by
      unfold pS
      rw [← ns_add]
      refine ns_cg (fun i _ => ?_)
      by_cases e : pt i = A
      · by_cases h0 : 0 < k i
        · rw [if_pos ⟨e, rfl⟩, if_pos ⟨e, rfl⟩, if_pos ⟨e, decide_eq_true h0⟩]
          have : k i = (k i - 1) + 1 := by omega
          calc k i * v i = ((k i - 1) + 1) * v i := by rw [← this]
            _ = (k i - 1) * v i + v i := by rw [Nat.succ_mul]
        · have hz : k i = 0 := by omega
          rw [if_pos ⟨e, rfl⟩, if_pos ⟨e, rfl⟩, if_neg (fun w => h0 (of_decide_eq_true w.2))]
          show k i * v i = (k i - 1) * v i + 0
          rw [hz, Nat.zero_sub, Nat.zero_mul]
      · rw [if_neg (fun w => e w.1), if_neg (fun w => e w.1), if_neg (fun w => e w.1)]
    rw [s u, s q, Nat.succ_mul]
    omega
end ZFL
/-- what holds of lots with their entries: e entries, p pieces, c components, b lots, cap all pieces of a part -/
def flOk (n : Nat) (pt q : Nat → Nat) (e p c : Nat → Nat → Nat) (b cap : Nat → Nat) : Prop :=
  (∀ y z : Nat, y < n → z < n → 0 < e y z → pt z < pt y ∧ 0 < c (pt y) (pt z)) ∧
  (∀ (y B : Nat) (W : Nat → Bool), y < n → ∃ f : Nat, f ≤ c (pt y) B ∧ pS n pt B W (e y) ≤ (b B - 1) + f ∧ f * q y ≤ pS n pt B W (p y)) ∧
  (∀ z : Nat, z < n → ns n (fun y => p y z) ≤ q z) ∧ ∀ B : Nat, pS n pt B (fun _ => true) q ≤ cap B
/-- a part's numbers: what a load of nu makes, what a load of R makes -/
def skOk (c : Nat → Nat → Nat) (b cap : Nat → Nat) (a : Nat → Nat) (h : Nat → Nat → Nat) : Prop :=
  (∀ A : Nat, 1 + ns A (fun B => if 0 < c A B ∧ 0 < b B then (c A B + b B - 1) * a B else 0) ≤ a A) ∧
  (∀ A R : Nat, R + ns A (fun B => if 0 < c A B ∧ 0 < b B then (b B - 1) * R * a B + h B (min (c A B * R) (cap B)) else 0) ≤ h A R)
section ZFL2
variable {n : Nat} {pt q b cap a N : Nat → Nat} {e p c h : Nat → Nat → Nat}
/-- a load on a part's lots, and what it makes below -/
theorem flow (hF : flOk n pt q e p c b cap) (hS : skOk c b cap a h) (hb : ∀ y : Nat, y < n → 1 ≤ b (pt y)) (hN : ∀ y : Nat, y < n → N y = 1 + ns n (fun z => e y z * N z)) :
    ∀ (A : Nat) (u : Nat → Nat) (nu R : Nat), (∀ V : Nat → Bool, pS n pt A V u ≤ nu + pS n pt A V q) → pS n pt A (fun _ => true) u ≤ nu + R → pS n pt A (fun _ => true) (fun y => u y * N y) ≤ a A * nu + h A R := by
  obtain ⟨f1, f2, f3, f4⟩ := hF
  obtain ⟨s1, s2⟩ := hS
  intro A
  induction A using Nat.strongRecOn with
  | ind A ih =>
    intro u nu R hu ht
    -- the nodes of this part, and those below
    have e1 : pS n pt A (fun _ => true) (fun y => u y * N y) = pS n pt A (fun _ => true) u + pS n pt A (fun _ => true) (fun y => ns n (fun z => u y * (e y z * N z))) := by
      rw [← pS_add]
      exact pS_cg (fun y hy _ _ => by rw [hN y hy, Nat.mul_add, Nat.mul_one, ← ns_mul])
    -- the loads below
    have e2 : pS n pt A (fun _ => true) (fun y => ns n (fun z => u y * (e y z * N z))) = ns n (fun z => pS n pt A (fun _ => true) (fun y => u y * e y z) * N z) := by
      rw [pS_ns]
      refine ns_cg (fun z _ => ?_)
      rw [Nat.mul_comm, ← pS_mul]
      exact pS_cg (fun y _ _ _ => by rw [← Nat.mul_assoc, Nat.mul_comm])
    have e3 : ns n (fun z => pS n pt A (fun _ => true) (fun y => u y * e y z) * N z) = ns A (fun B => pS n pt B (fun _ => true) (fun z => pS n pt A (fun _ => true) (fun y => u y * e y z) * N z)) := by
      unfold pS
      rw [ns_swap]
      refine ns_cg (fun z hz => ?_)
      by_cases hlt : pt z < A
      · have h1 := ns_one (v := ns n (fun y => if pt y = A ∧ true = true then u y * e y z else 0) * N z) hlt
        rw [← h1]
        exact ns_cg (fun B _ => by
          by_cases eB : pt z = B
          · rw [if_pos eB.symm, if_pos ⟨eB, rfl⟩]
          · rw [if_neg (fun w => eB w.symm), if_neg (fun w => eB w.1)])
      · have z0 : ns n (fun y => if pt y = A ∧ true = true then u y * e y z else 0) = 0 := by
          refine (ns_cg (g := fun _ => 0) (fun y hy => ?_)).trans (ns_zero n)
          by_cases eA : pt y = A ∧ true = true
          · rw [if_pos eA]
            by_cases e0 : 0 < e y z
            · have := (f1 y z hy hz e0).1
              rw [eA.1] at this
              exact absurd this hlt
            · rw [Nat.le_zero.mp (Nat.le_of_not_lt e0), Nat.mul_zero]
          · rw [if_neg eA]
        rw [z0, Nat.zero_mul]
        exact ((ns_cg (g := fun _ => 0) (fun B hB => if_neg (fun w => hlt (by have := w.1; omega)))).trans (ns_zero A)).symm
    -- one part below
    have step : ∀ B : Nat, B < A → pS n pt B (fun _ => true) (fun z => pS n pt A (fun _ => true) (fun y => u y * e y z) * N z) ≤ (if 0 < c A B ∧ 0 < b B then (c A B + b B - 1) * a B else 0) * nu + (if 0 < c A B ∧ 0 < b B then (b B - 1) * R * a B + h B (min (c A B * R) (cap B)) else 0) := by
      intro B hB
      by_cases hc : 0 < c A B ∧ 0 < b B
      · rw [if_pos hc, if_pos hc]
        -- entries of each lot
        have key : ∀ W : Nat → Bool, ∃ k : Nat → Nat, (∀ y : Nat, y < n → pt y = A → k y ≤ c A B) ∧ (∀ y : Nat, y < n → pt y = A → pS n pt B W (e y) ≤ (b B - 1) + k y ∧ k y * q y ≤ pS n pt B W (p y)) := fun W => by
          have h0 : ∀ y : Nat, ∃ k : Nat, y < n → pt y = A → k ≤ c A B ∧ pS n pt B W (e y) ≤ (b B - 1) + k ∧ k * q y ≤ pS n pt B W (p y) := fun y => by
            by_cases hy : y < n
            · by_cases hA : pt y = A
              · obtain ⟨f, g1, g2, g3⟩ := f2 y B W hy
                rw [hA] at g1
                exact ⟨f, fun _ _ => ⟨g1, g2, g3⟩⟩
              · exact ⟨0, fun _ w => absurd w hA⟩
            · exact ⟨0, fun w => absurd w hy⟩
          exact ⟨fun y => Classical.choose (h0 y), fun y hy hA => (Classical.choose_spec (h0 y) hy hA).1, fun y hy hA => (Classical.choose_spec (h0 y) hy hA).2⟩
        have sw : ∀ W : Nat → Bool, pS n pt B W (fun z => pS n pt A (fun _ => true) (fun y => u y * e y z)) = pS n pt A (fun _ => true) (fun y => u y * pS n pt B W (e y)) := fun W => by
          have h1 : ∀ y : Nat, u y * pS n pt B W (e y) = ns n (fun z => if pt z = B ∧ W z = true then u y * e y z else 0) := fun y => by
            unfold pS
            rw [← ns_mul]
            exact ns_cg (fun z _ => by
              by_cases w : pt z = B ∧ W z = true
              · rw [if_pos w, if_pos w]
              · rw [if_neg w, if_neg w, Nat.mul_zero])
          have h2 : pS n pt A (fun _ => true) (fun y => u y * pS n pt B W (e y)) = pS n pt A (fun _ => true) (fun y => ns n (fun z => if pt z = B ∧ W z = true then u y * e y z else 0)) := pS_cg (fun y _ _ _ => h1 y)
          rw [h2, pS_ns]
          refine ns_cg (fun z _ => ?_)
          by_cases w : pt z = B ∧ W z = true
          · rw [if_pos w]
            exact pS_cg (fun y _ _ _ => (if_pos w).symm)
          · rw [if_neg w]
            have h0 : pS n pt A (fun _ => true) (fun y => if pt z = B ∧ W z = true then u y * e y z else 0) = pS n pt A (fun _ => true) (fun y => 0 * u y) := pS_cg (fun y _ _ _ => by rw [if_neg w, Nat.zero_mul])
            rw [h0, pS_mul, Nat.zero_mul]
        have load : ∀ W : Nat → Bool, pS n pt B W (fun z => pS n pt A (fun _ => true) (fun y => u y * e y z)) ≤ ((b B - 1) * (nu + R) + c A B * nu) + pS n pt B W q ∧ pS n pt B W (fun z => pS n pt A (fun _ => true) (fun y => u y * e y z)) ≤ (b B - 1) * (nu + R) + c A B * (nu + R) := fun W => by
          obtain ⟨k, k1, k2⟩ := key W
          rw [sw W]
          have l1 : pS n pt A (fun _ => true) (fun y => u y * pS n pt B W (e y)) ≤ pS n pt A (fun _ => true) (fun y => (b B - 1) * u y + k y * u y) := pS_le (fun y hy hA _ => by
            rw [← Nat.add_mul, Nat.mul_comm (u y)]
            exact Nat.mul_le_mul_right _ (k2 y hy hA).1)
          rw [pS_add, pS_mul] at l1
          have l2 : (b B - 1) * pS n pt A (fun _ => true) u ≤ (b B - 1) * (nu + R) := Nat.mul_le_mul_left _ ht
          have l3 := pS_lev hu (c A B) k k1
          have l4 : pS n pt A (fun _ => true) (fun y => k y * q y) ≤ pS n pt B W q := by
            have m1 : pS n pt A (fun _ => true) (fun y => k y * q y) ≤ pS n pt A (fun _ => true) (fun y => pS n pt B W (p y)) := pS_le (fun y hy hA _ => (k2 y hy hA).2)
            have m2 : pS n pt A (fun _ => true) (fun y => pS n pt B W (p y)) ≤ ns n (fun y => pS n pt B W (p y)) := ns_le (fun y _ => by
              show (if pt y = A ∧ true = true then pS n pt B W (p y) else 0) ≤ pS n pt B W (p y)
              split <;> omega)
            have m3 : ns n (fun y => pS n pt B W (p y)) = pS n pt B W (fun z => ns n (fun y => p y z)) := by
              rw [pS_ns]
            have m4 : pS n pt B W (fun z => ns n (fun y => p y z)) ≤ pS n pt B W q := pS_le (fun z hz _ _ => f3 z hz)
            omega
          have l5 : pS n pt A (fun _ => true) (fun y => k y * u y) ≤ c A B * (nu + R) := by
            have m1 : pS n pt A (fun _ => true) (fun y => k y * u y) ≤ pS n pt A (fun _ => true) (fun y => c A B * u y) := pS_le (fun y hy hA _ => Nat.mul_le_mul_right _ (k1 y hy hA))
            rw [pS_mul] at m1
            have m2 : c A B * pS n pt A (fun _ => true) u ≤ c A B * (nu + R) := Nat.mul_le_mul_left _ ht
            omega
          exact ⟨by omega, by omega⟩
        have hcapB := f4 B
        have tot : pS n pt B (fun _ => true) (fun z => pS n pt A (fun _ => true) (fun y => u y * e y z)) ≤ ((b B - 1) * (nu + R) + c A B * nu) + min (c A B * R) (cap B) := by
          have t1 := (load (fun _ => true)).1
          have t2 := (load (fun _ => true)).2
          rw [Nat.mul_add (c A B)] at t2
          rcases Nat.le_total (c A B * R) (cap B) with w | w
          · rw [Nat.min_eq_left w]; omega
          · rw [Nat.min_eq_right w]; omega
        have main := ih B hB (fun z => pS n pt A (fun _ => true) (fun y => u y * e y z)) ((b B - 1) * (nu + R) + c A B * nu) (min (c A B * R) (cap B)) (fun V => (load V).1) tot
        refine Nat.le_trans main ?_
        -- arithmetic
        have ar : (b B - 1) * (nu + R) + c A B * nu = (b B - 1 + c A B) * nu + (b B - 1) * R := by
          rw [Nat.mul_add, Nat.add_mul]; omega
        have ar2 : a B * ((b B - 1) * (nu + R) + c A B * nu) = (b B - 1 + c A B) * a B * nu + (b B - 1) * R * a B := by
          rw [ar, Nat.mul_add, Nat.mul_comm (a B) ((b B - 1 + c A B) * nu), Nat.mul_right_comm, Nat.mul_comm (a B)]
        rw [ar2]
        have ar3 : b B - 1 + c A B = c A B + b B - 1 := by have := hc.2; omega
        rw [ar3]
        omega
      · rw [if_neg hc, if_neg hc]
        have z0 : pS n pt B (fun _ => true) (fun z => pS n pt A (fun _ => true) (fun y => u y * e y z) * N z) = 0 := by
          refine (ns_cg (g := fun _ => 0) (fun z hz => ?_)).trans (ns_zero n)
          by_cases eB : pt z = B ∧ true = true
          · rw [if_pos eB]
            have y0 : pS n pt A (fun _ => true) (fun y => u y * e y z) = 0 := by
              refine (ns_cg (g := fun _ => 0) (fun y hy => ?_)).trans (ns_zero n)
              by_cases eA : pt y = A ∧ true = true
              · rw [if_pos eA]
                by_cases e0 : 0 < e y z
                · have := (f1 y z hy hz e0).2
                  have h1 := hb z hz
                  rw [eA.1, eB.1] at this
                  rw [eB.1] at h1
                  exact absurd ⟨this, h1⟩ hc
                · show u y * e y z = 0
                  rw [Nat.le_zero.mp (Nat.le_of_not_lt e0), Nat.mul_zero]
              · rw [if_neg eA]
            show pS n pt A (fun _ => true) (fun y => u y * e y z) * N z = 0
            rw [y0, Nat.zero_mul]
          · rw [if_neg eB]
        rw [z0]; omega
    have sum := ns_le (n := A) (fun B hB => step B hB)
    have sum2 : ns A (fun B => (if 0 < c A B ∧ 0 < b B then (c A B + b B - 1) * a B else 0) * nu + (if 0 < c A B ∧ 0 < b B then (b B - 1) * R * a B + h B (min (c A B * R) (cap B)) else 0)) = ns A (fun B => if 0 < c A B ∧ 0 < b B then (c A B + b B - 1) * a B else 0) * nu + ns A (fun B => if 0 < c A B ∧ 0 < b B then (b B - 1) * R * a B + h B (min (c A B * R) (cap B)) else 0) := by
      rw [ns_add]
      congr 1
      rw [Nat.mul_comm, ← ns_mul]
      exact ns_cg (fun B _ => Nat.mul_comm _ _)
    have q1 := s1 A
    have q2 := s2 A R
    rw [e1, e2, e3]
    have q3 : (1 + ns A (fun B => if 0 < c A B ∧ 0 < b B then (c A B + b B - 1) * a B else 0)) * nu ≤ a A * nu := Nat.mul_le_mul_right _ q1
    rw [Nat.add_mul, Nat.one_mul] at q3
    omega
end ZFL2
