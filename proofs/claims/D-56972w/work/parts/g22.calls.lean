/-! THE ACCOUNT: the structure's calls are among the calls made -/
set_option maxRecDepth 100000
section ZG22
variable {z : Nat → Nat} {k l o p A B T U : Nat} {X S : hS} {ch : Nat → Bool} {c : Ctr}
theorem count_le_len {A : Nat} : ∀ M : List Nat, ns A (fun B => M.count B) ≤ M.length
  | [] => Nat.le_of_eq ((ns_cg (g := fun _ => 0) (fun B _ => List.count_nil)).trans (ns_zero _))
  | x :: M => by
    have ih := count_le_len (A := A) M
    have e1 : ns A (fun B => (x :: M).count B) = ns A (fun B => M.count B) + ns A (fun B => if B = x then 1 else 0) := by
      rw [← ns_add]
      refine ns_cg (fun B _ => ?_)
      by_cases h : B = x
      · subst h
        rw [List.count_cons_self, if_pos rfl]
      · rw [List.count_cons_of_ne (fun w => h w.symm), if_neg h, Nat.add_zero]
    have := one_le (e := x) A
    rw [e1, List.length_cons]
    omega
theorem comp_len (hp : A < np X) : ns A (cT X A) ≤ if fPc X A % 2 = 0 then (sE X 24 (fPc X A / 2)).length else 0 := by
  have e : ns A (cT X A) = ns A (fun B => (cP X A).count B) := ns_cg (fun B _ => if_pos hp)
  rw [e]
  refine Nat.le_trans (count_le_len (cP X A)) ?_
  unfold cP
  split
  · rw [List.length_map]; exact Nat.le_refl _
  · exact Nat.le_refl _
/-- components of all parts -/
theorem comps_cm (hI : iAll z k X) : ns (np X) (fun A => ns A (cT X A)) ≤ cmN X := by
  have h1 : ns (np X) (fun A => ns A (cT X A)) ≤ ns (np X) (fun A => ns (sn X 2) (fun i => if fPc X A % 2 = 0 ∧ fPc X A / 2 = i then (sE X 24 i).length else 0)) := ns_le (fun A hA => by
    refine Nat.le_trans (comp_len hA) ?_
    by_cases hev : fPc X A % 2 = 0
    · rw [if_pos hev]
      have h2 : fPc X A / 2 < sn X 2 := by
        rcases hI.pt.pc hA with ⟨q1, q2, q3⟩ | ⟨q1, q2, q3⟩
        · exact q2
        · omega
      refine Nat.le_trans ?_ (ns_ge (f := fun i => if fPc X A % 2 = 0 ∧ fPc X A / 2 = i then (sE X 24 i).length else 0) h2)
      show _ ≤ if fPc X A % 2 = 0 ∧ fPc X A / 2 = fPc X A / 2 then (sE X 24 (fPc X A / 2)).length else 0
      rw [if_pos ⟨hev, rfl⟩]
      exact Nat.le_refl _
    · rw [if_neg hev]; exact Nat.zero_le _)
  refine Nat.le_trans h1 ?_
  rw [ns_swap]
  unfold cmN
  refine ns_le (fun i hi => ?_)
  have h2 : ns (np X) (fun A => if fPc X A % 2 = 0 ∧ fPc X A / 2 = i then (sE X 24 i).length else 0) ≤ ns (np X) (fun A => (sE X 24 i).length * (if A = (sT X 2 0 i).toNat then 1 else 0)) := ns_le (fun A hA => by
    by_cases h : fPc X A % 2 = 0 ∧ fPc X A / 2 = i
    · have e : A = (sT X 2 0 i).toNat := by
        rcases hI.pt.pc hA with ⟨q1, q2, q3⟩ | ⟨q1, q2, q3⟩
        · rw [h.2] at q3
          rw [q3, Int.toNat_natCast]
        · omega
      rw [if_pos h, if_pos e, Nat.mul_one]
      exact Nat.le_refl _
    · rw [if_neg h]; exact Nat.zero_le _)
  refine Nat.le_trans h2 ?_
  rw [ns_mul]
  have := one_le (e := (sT X 2 0 i).toNat) (np X)
  have h3 := Nat.mul_le_mul_left (sE X 24 i).length this
  rw [Nat.mul_one] at h3
  exact h3
theorem xN_sum : ns (np X) (fun A => xN X ch A) ≤ chN X ch := by
  unfold xN
  rw [ns_swap]
  unfold chN
  refine ns_le (fun o _ => ?_)
  by_cases h : ch o = true
  · rw [if_pos h]
    refine Nat.le_trans (ns_le (g := fun A => if A = pO X o then 1 else 0) (fun A _ => ?_)) (one_le (e := pO X o) (np X))
    by_cases e : pO X o = A
    · rw [if_pos ⟨h, e⟩, if_pos e.symm]; exact Nat.le_refl _
    · rw [if_neg (fun w => e w.2)]; exact Nat.zero_le _
  · refine Nat.le_of_eq ?_
    rw [if_neg h]
    exact (ns_cg (g := fun _ => 0) (fun A _ => if_neg (fun w => h w.1))).trans (ns_zero _)
theorem chN_le : chN X ch ≤ sn X 8 := by
  have h : chN X ch ≤ ns (sn X 8) (fun _ => 1) := ns_le (fun o _ => ite1)
  rw [ns_const] at h
  exact h
theorem bought_sum (hI : iAll z k X) : ns (np X) (fun A => if mkL X A = true then 0 else bL X A) ≤ bgN X := by
  have e : ns (np X) (fun A => if mkL X A = true then 0 else bL X A) = ns (np X) (fun A => ns (sn X 6) (fun l => if mkL X A = true then 0 else if ptL X l = A then 1 else 0)) := ns_cg (fun A _ => by
    by_cases h : mkL X A = true
    · rw [if_pos h]
      refine ((ns_cg (g := fun _ => 0) (fun l _ => ?_)).trans (ns_zero _)).symm
      rw [if_pos h]
    · rw [if_neg h]
      unfold bL
      exact ns_cg (fun l _ => by rw [if_neg h]))
  rw [e, ns_swap]
  unfold bgN
  refine ns_le (fun l hl => ?_)
  obtain ⟨p, hp, e1, e2, e3⟩ := ptL_at hI hl
  by_cases hb : (sT X 6 1 l).toNat % 2 = 1
  · rw [if_pos hb]
    refine Nat.le_trans (ns_le (g := fun A => if A = p then 1 else 0) (fun A _ => ?_)) (one_le (e := p) (np X))
    by_cases h : mkL X A = true
    · rw [if_pos h]; exact Nat.zero_le _
    · rw [if_neg h, e3]
      by_cases w : p = A
      · rw [if_pos w, if_pos w.symm]; exact Nat.le_refl _
      · rw [if_neg w]; exact Nat.zero_le _
  · rw [if_neg hb]
    refine Nat.le_of_eq ((ns_cg (g := fun _ => 0) (fun A _ => ?_)).trans (ns_zero _))
    by_cases h : mkL X A = true
    · rw [if_pos h]
    · rw [if_neg h, e3]
      by_cases w : p = A
      · exfalso
        rw [e1, Int.toNat_natCast] at hb
        have : fPc X A % 2 ≠ 0 := fun q => h (decide_eq_true q)
        rw [← w] at this
        omega
      · rw [if_neg w]
/-- all calls that the structure took -/
theorem K_le (hI : iAll z k S) (hb : bgN S ≤ (sT S 0 5 0).toNat) : ns (np S) (ownR (cT S) (bL S) (xN S ch) (mkL S)) + dlN z S ≤ cb z S + chN S ch := by
  have e : ns (np S) (ownR (cT S) (bL S) (xN S ch) (mkL S)) ≤ ns (np S) (fun A => (1 + ns A (cT S A)) + (2 * xN S ch A + if mkL S A = true then 0 else bL S A)) := ns_le (fun A _ => by
    unfold ownR
    split
    · omega
    · omega)
  rw [ns_add, ns_add, ns_add, ns_const, ns_mul] at e
  have h1 := comps_cm hI
  have h2 : ns (np S) (xN S ch) ≤ chN S ch := xN_sum
  have h3 := chN_le (X := S) (ch := ch)
  have h4 := bought_sum hI
  unfold cb
  omega
end ZG22
