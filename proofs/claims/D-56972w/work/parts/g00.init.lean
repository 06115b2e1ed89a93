/-! REACH: the state ahead of the first call -/
set_option maxRecDepth 100000
section ZG0
variable {z : Nat → Nat} {c : Nat}
/-- the state ahead of the first call -/
abbrev X0 (c : Nat) : hS := kStart S0 c
theorem X0_n : sn (X0 c) 0 = 1 ∧ sn (X0 c) 1 = 0 ∧ sn (X0 c) 2 = 0 ∧ sn (X0 c) 3 = 0 ∧ sn (X0 c) 4 = 0 ∧ sn (X0 c) 5 = 0 ∧ sn (X0 c) 6 = 0 ∧ sn (X0 c) 7 = 0 ∧ sn (X0 c) 8 = 0 ∧ sn (X0 c) 9 = 4 := ⟨rfl, rfl, rfl, rfl, rfl, rfl, rfl, rfl, rfl, rfl⟩
theorem X0_m : sn (X0 c) 11 = 1 ∧ sn (X0 c) 12 = 0 ∧ sn (X0 c) 13 = 0 ∧ sn (X0 c) 14 = 0 ∧ sn (X0 c) 15 = 0 ∧ sn (X0 c) 19 = 256 := ⟨rfl, rfl, rfl, rfl, rfl, rfl⟩
theorem X0_fix : fFix (X0 c) := ⟨rfl, rfl, rfl, rfl, rfl, rfl, rfl, rfl, rfl, Nat.le_of_ble_eq_true rfl, Nat.le_of_ble_eq_true rfl, Nat.le_of_ble_eq_true rfl, Nat.zero_le _, fun x hx => absurd hx List.not_mem_nil⟩
theorem X0_mfix : mFix (X0 c) := ⟨rfl, rfl, rfl, rfl, rfl, rfl, rfl, rfl, rfl, rfl, rfl, Nat.le_of_ble_eq_true rfl, Nat.le_of_ble_eq_true rfl, Nat.le_of_ble_eq_true rfl, Nat.le_of_ble_eq_true rfl⟩
theorem nlt {p : Prop} {i n : Nat} (e : n = 0) (h : i < n) : p := absurd h (by omega)
theorem X0_all (hz : zInj z) : iAll z 0 (X0 (z 6)) := by
  have n1 : sn (X0 (z 6)) 1 = 0 := rfl
  have n2 : sn (X0 (z 6)) 2 = 0 := rfl
  have n3 : sn (X0 (z 6)) 3 = 0 := rfl
  have n4 : sn (X0 (z 6)) 4 = 0 := rfl
  have n5 : sn (X0 (z 6)) 5 = 0 := rfl
  have n6 : sn (X0 (z 6)) 6 = 0 := rfl
  have n7 : sn (X0 (z 6)) 7 = 0 := rfl
  have n8 : sn (X0 (z 6)) 8 = 0 := rfl
  have n26 : sn (X0 (z 6)) 26 = 0 := rfl
  have n27 : sn (X0 (z 6)) 27 = 0 := rfl
  have nP : np (X0 (z 6)) = 0 := rfl
  have t5 : sT (X0 (z 6)) 0 5 0 = 0 := rfl
  have t6 : sT (X0 (z 6)) 0 6 0 = 0 := rfl
  refine ⟨X0_fix, ⟨fun p h => nlt nP h, rfl, rfl, fun i h => nlt n2 h, fun q i hq h => ?_, fun i h => nlt n2 h, fun j h => nlt n4 h, fun i h => nlt n2 h, fun q h => nlt n5 h⟩, ⟨rfl, by rw [t6]; decide, fun q h => nlt n1 h⟩, fun l h => nlt n6 h, ⟨fun i h => nlt n26 h, fun i h => nlt n27 h, fun t h => nlt n7 h⟩, fun o h => nlt n8 h,
    ⟨fun o q h => nlt n8 h, fun o q h => nlt n8 h, fun l o h => nlt n6 h, fun l q h => nlt n6 h⟩, ⟨fun q h => nlt n1 h, fun q h => nlt n1 h, fun q r h => nlt n1 h⟩, fun l h => nlt n6 h, ⟨fun l h => nlt n6 h, fun o h => nlt n8 h, fun t h => nlt n7 h, (show (0 : Int) ≤ 0 from Int.le_refl _), rfl, (show (0 : Int) + 0 ≤ ((0 : Nat) : Int) * 1000000000 by decide)⟩, fun o h => nlt n8 h, fun o h => nlt n8 h, ⟨(show (0 : Int) ≤ 0 from Int.le_refl _), (show (0 : Int) ≤ 60 by decide), (show (0 : Int) + ((0 : Nat) : Int) ≤ ((0 : Nat) : Int) by decide), (show ((0 : Nat) : Int) ≤ (0 : Int) + 0 by decide), fun x hx => ?_⟩, ⟨rfl, rfl, fun x hx => ?_⟩⟩
  · rcases hq with rfl | rfl
    · exact nlt n2 h
    · exact nlt n3 h
  · have e : x = 0 ∨ x = 1 ∨ x = 2 ∨ x = 3 := by omega
    rcases e with rfl | rfl | rfl | rfl <;> exact (show ((0 : Nat) : Int) ≤ (0 : Int) by decide)
  · have e : x = 0 ∨ x = 1 ∨ x = 2 ∨ x = 3 := by omega
    rcases e with rfl | rfl | rfl | rfl <;> exact ⟨⟨6, by decide, by decide, rfl⟩, rfl, fun y hy => absurd hy List.not_mem_nil⟩
theorem X0_rn (hz : zInj z) : iRn z (X0 (z 6)) := by
  have n6 : sn (X0 (z 6)) 6 = 0 := rfl
  have n8 : sn (X0 (z 6)) 8 = 0 := rfl
  exact ⟨⟨fun o q h => nlt n8 h, fun l h => nlt n6 h, fun o h => nlt n8 h⟩, fun o h => nlt n8 h, fun o h => nlt n8 h⟩
theorem X0_shape : mShape (X0 c) := by
  have n13 : sn (X0 c) 13 = 0 := rfl
  have n14 : sn (X0 c) 14 = 0 := rfl
  have n15 : sn (X0 c) 15 = 0 := rfl
  exact ⟨X0_mfix, fun p h => nlt n13 h, fun p h => nlt n14 h, fun p h => nlt n15 h, rfl, rfl, rfl, rfl, rfl, rfl⟩
theorem X0_box : mBox (X0 c) := ⟨by show 256 ≤ 256; exact Nat.le_refl _, fun j hj => rfl, fun o h => nlt (show sn (X0 c) 15 = 0 from rfl) h⟩
theorem X0_rl {x : Nat} (hz : zInj z) (hx : x < 4) : fRl z (X0 (z 6)) x = 6 := by
  have e : sT (X0 (z 6)) 9 0 x = (z 6 : Nat) := by
    have e : x = 0 ∨ x = 1 ∨ x = 2 ∨ x = 3 := by omega
    rcases e with rfl | rfl | rfl | rfl <;> rfl
  unfold fRl
  rw [e]
  unfold rNo
  simp
theorem X0_r (hz : zInj z) : rR z (X0 (z 6)) (X0 (z 6)) := by
  have n1 : sn (X0 (z 6)) 1 = 0 := rfl
  have n6 : sn (X0 (z 6)) 6 = 0 := rfl
  have n8 : sn (X0 (z 6)) 8 = 0 := rfl
  have nP : np (X0 (z 6)) = 0 := rfl
  refine ⟨⟨rfl, rfl⟩, ⟨rfl, fun q h => nlt n1 h⟩, ⟨rfl, fun q h => nlt nP h⟩, ⟨rfl, fun q h => nlt n6 h⟩, ⟨rfl, fun q h => nlt n8 h⟩, fun q h => nlt n1 h, rfl, rfl, rfl, fun x hx => ?_⟩
  rw [X0_rl hz hx]
  have e : x = 0 ∨ x = 1 ∨ x = 2 ∨ x = 3 := by omega
  rcases e with rfl | rfl | rfl | rfl <;> exact ⟨rfl, rfl⟩
end ZG0
