/-! THE ROOM: a lot's nodes by the closed set it lies in -/
set_option maxRecDepth 100000
section ZE13
variable {z : Nat → Nat} {k : Nat} {X : hS} {Kf : Nat → Bool}
def nK (X : hS) (Kf : Nat → Bool) (y : Nat) : Nat := if Kf y = true then nT X y else 1
theorem bK_pos {y : Nat} (hI : iAll z k X) (hy : y < sn X 6) : 1 ≤ bKx X Kf (ptK X Kf y) := by
  unfold bKx ptK
  by_cases h : Kf y = true
  · obtain ⟨p, hp, -, -, e3⟩ := ptL_at hI hy
    rw [if_pos h, if_pos (by omega)]
    unfold bK
    have := ns_ge (f := fun l => if ptL X l = ptL X y ∧ Kf l = true then 1 else 0) hy
    rw [if_pos ⟨rfl, h⟩] at this
    exact this
  · rw [if_neg h, if_neg (by omega)]; omega
theorem nK_rec (hI : iAll z k X) (hcl : ∀ y l : Nat, Kf y = true → l ∈ fch X y → Kf l = true) {y : Nat} (hy : y < sn X 6) : nK X Kf y = 1 + ns (sn X 6) (fun x => eK X Kf y x * nK X Kf x) := by
  by_cases h : Kf y = true
  · have e : nK X Kf y = nT X y := if_pos h
    rw [e, nT_rec hI hy]
    congr 1
    refine ns_cg (fun x _ => ?_)
    unfold eK
    rw [if_pos h]
    by_cases h0 : 0 < eL X y x
    · have hx := hcl y x h (List.count_pos_iff.mp h0)
      unfold nK
      rw [if_pos hx]
    · have : eL X y x = 0 := by omega
      rw [this, Nat.zero_mul, Nat.zero_mul]
  · have e : nK X Kf y = 1 := if_neg h
    have e0 : ns (sn X 6) (fun x => eK X Kf y x * nK X Kf x) = 0 := (ns_cg (g := fun _ => 0) (fun x _ => by
      unfold eK
      rw [if_neg h, Nat.zero_mul])).trans (ns_zero _)
    rw [e, e0]
theorem flowK (hI : iAll z k X) (hL : iLt z X) (hC : iCk X) (hcl : ∀ y l : Nat, Kf y = true → l ∈ fch X y → Kf l = true) (A : Nat) (u : Nat → Nat) (nu R : Nat) (hu : ∀ V : Nat → Bool, pS (sn X 6) (ptK X Kf) A V u ≤ nu + pS (sn X 6) (ptK X Kf) A V (qL X)) (ht : pS (sn X 6) (ptK X Kf) A (fun _ => true) u ≤ nu + R) :
    pS (sn X 6) (ptK X Kf) A (fun _ => true) (fun y => u y * nK X Kf y) ≤ (1 + ao (cT X) (bKx X Kf) A) * nu + (R + ho (cT X) (bKx X Kf) (capKx X Kf) A R) :=
  flow (flK hI hL hC hcl) sk_ok (fun y hy => bK_pos hI hy) (fun y hy => nK_rec hI hcl hy) A u nu R hu ht
/-- one lot of a closed set -/
theorem nT_K (hI : iAll z k X) (hL : iLt z X) (hC : iCk X) (hcl : ∀ y l : Nat, Kf y = true → l ∈ fch X y → Kf l = true) {y : Nat} (hy : y < sn X 6) (hk : Kf y = true) :
    nT X y ≤ 1 + ho (cT X) (bKx X Kf) (capKx X Kf) (ptL X y) 1 := by
  have et : ptK X Kf y = ptL X y := if_pos hk
  have en : nK X Kf y = nT X y := if_pos hk
  have h := flowK (Kf := Kf) hI hL hC hcl (ptL X y) (fun x => if x = y then 1 else 0) 0 1 (fun V => by
    rw [Nat.zero_add]
    refine pS_le (fun x hx _ _ => ?_)
    have := qL_pos hI hx
    show (if x = y then 1 else 0) ≤ qL X x
    split <;> omega) (by
    rw [Nat.zero_add]
    have e := ns_one (j := y) (v := 1) hy
    refine Nat.le_trans (ns_le (g := fun x => if x = y then 1 else 0) (fun x _ => ?_)) (Nat.le_of_eq e)
    split
    · exact Nat.le_refl _
    · exact Nat.zero_le _)
  rw [Nat.mul_zero, Nat.zero_add] at h
  refine Nat.le_trans ?_ h
  have g := ns_ge (f := fun x => if ptK X Kf x = ptL X y ∧ (fun _ => true) x = true then (fun x => (if x = y then 1 else 0) * nK X Kf x) x else 0) hy
  rw [if_pos ⟨et, rfl⟩] at g
  have e1 : (fun x => (if x = y then 1 else 0) * nK X Kf x) y = nT X y := by
    show (if y = y then 1 else 0) * nK X Kf y = _
    rw [if_pos rfl, Nat.one_mul, en]
  rw [e1] at g
  exact g
end ZE13
