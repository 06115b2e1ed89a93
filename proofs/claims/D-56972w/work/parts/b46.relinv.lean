/-! THE SIMULATION: release, the invariants behind the taking out -/
set_option maxRecDepth 100000
section ZBX1
variable {z : Nat → Nat} {k o : Nat} {X : hS}
abbrev fRv (z : Nat → Nat) (X : hS) (o : Nat) (s : Nat) : hS := sset (fRelQ (fRelU X o) o) 8 7 o (z s : Nat)
theorem fRv_n {s c : Nat} : sn (fRv z X o s) c = sn X c := fRel_sn
theorem fRv_E {s c i : Nat} : sE (fRv z X o s) c i = sE X c i := fRel_sE
theorem fRv_T {s c q i : Nat} (h6 : ¬ (c = 6 ∧ (q = 4 ∨ q = 5 ∨ q = 6))) (h7 : ¬ (c = 7 ∧ q = 2)) (h8 : ¬ (c = 8 ∧ (q = 7 ∨ q = 8 ∨ q = 10) ∧ i = o)) : sT (fRv z X o s) c q i = sT X c q i := by
  rw [sT_set, if_neg (by omega)]
  unfold fRelQ
  rw [sT_set, if_neg (by omega)]
  exact fRel_sT h6 h7 (by omega)
theorem fRv_87 {s : Nat} : sT (fRv z X o s) 8 7 o = (z s : Nat) := by rw [sT_set, if_pos ⟨rfl, rfl, rfl⟩]
theorem fRv_88 {s : Nat} : sT (fRv z X o s) 8 8 o = sT X 8 2 o := by
  rw [sT_set, if_neg (by omega)]
  unfold fRelQ
  rw [sT_set, if_pos ⟨rfl, rfl, rfl⟩]
  exact fRel_sT (by omega) (by omega) (by omega)
theorem fRv_U {s c q i : Nat} (h : ¬ (c = 8 ∧ (q = 7 ∨ q = 8) ∧ i = o)) : sT (fRv z X o s) c q i = sT (fRelU X o) c q i := by
  rw [sT_set, if_neg (by omega)]
  unfold fRelQ
  rw [sT_set, if_neg (by omega)]
theorem fRv_ceq {s c : Nat} (h : c ≠ 6 ∧ c ≠ 7 ∧ c ≠ 8) : ceq X (fRv z X o s) c := ⟨fRv_n, fun _ _ => fRv_T (by omega) (by omega) (by omega), fun _ => fRv_E⟩
end ZBX1
