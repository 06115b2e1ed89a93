/-! THE ROOM: isSound's forward walks are searches along delivered lists -/
set_option maxRecDepth 100000
section ZF22
variable {S : hS} {ch : Nat → List Nat} {x : Nat}
theorem inStep_true : ∀ (L : List Nat) (s : Nat), L.foldl (inStep ch x) (true, s) = (true, s)
  | [], _ => rfl
  | y :: L, s => by
    rw [List.foldl_cons]
    have : inStep ch x (true, s) y = (true, s) := if_pos rfl
    rw [this]
    exact inStep_true L s
theorem inStep_lW : ∀ (L : List Nat) (s : Nat), (L.foldl (inStep ch x) (false, s)).2 = s + lW ch 100 x L
  | [], _ => rfl
  | y :: L, s => by
    rw [List.foldl_cons, lW_cons]
    have e : inStep ch x (false, s) y = (inn ch 100 x y, s + iw ch 100 x y) := by
      unfold inStep
      rw [if_neg (show ¬ (false, s).1 = true from Bool.false_ne_true)]
      unfold inn iw
      by_cases h : y = x
      · rw [if_pos h, if_pos (beq_iff_eq.mpr h), decide_eq_true h, beq_iff_eq.mpr h]
      · rw [if_neg h, if_neg (fun w => h (beq_iff_eq.mp w)), decide_eq_false h]
        have : (y == x) = false := by
          cases hh : y == x with
          | true => exact absurd (beq_iff_eq.mp hh) h
          | false => rfl
        rw [this]
    rw [e]
    cases hi : inn ch 100 x y with
    | true =>
      rw [inStep_true, if_pos rfl]
      show s + iw ch 100 x y = _
      omega
    | false =>
      rw [inStep_lW L, if_neg Bool.false_ne_true]
      omega
theorem fInO_lW {o : Nat} : (fInO S x o).2 = 1 + lW (fch S) 100 x (ofs (fDv S o)) := by
  unfold fInO fInQ
  rw [List.take_length, inStep_lW]
  have e : (sE S 27 (fDelL S o)).map (fLotOf S) = ofs (fDv S o) := by
    unfold ofs fDv
    rw [List.map_map]
    rfl
  rw [e]
theorem cntP_ns {f : Nat → Bool × Nat} : ∀ n : Nat, (cntP f n).2 = 1 + ns n (fun o => (f o).2)
  | 0 => rfl
  | n + 1 => by
    rw [cntP_succ]
    show (cntP f n).2 + (f n).2 = 1 + (ns n (fun o => (f o).2) + (f n).2)
    rw [cntP_ns n]
    omega
theorem sum_range {f : Nat → Nat} : ∀ n : Nat, ((List.range n).map f).sum = ns n f
  | 0 => rfl
  | n + 1 => by
    rw [List.range_succ, List.map_append, List.sum_append, sum_range n]
    rfl
/-- the forward walks: each lot looked for along each order's delivered list -/
theorem forW_eq : fForW S (sn S 6) = sn S 6 + sn S 8 * sn S 6 + ns (sn S 8) (fun o => ((allL S).map (fun x => lW (fch S) 100 x (ofs (fDv S o)))).sum) := by
  have h1 : fForW S (sn S 6) = ns (sn S 6) (fun l => 1 + ns (sn S 8) (fun o => 1 + lW (fch S) 100 l (ofs (fDv S o)))) := by
    unfold fForW
    rw [sum_range]
    refine ns_cg (fun l _ => ?_)
    rw [cntP_ns]
    congr 1
    exact ns_cg (fun o _ => fInO_lW)
  have one : ∀ n c : Nat, ns n (fun _ => c) = n * c := by
    intro n c
    induction n with
    | zero => exact (Nat.zero_mul c).symm
    | succ n ih => show ns n (fun _ => c) + c = _; rw [ih, Nat.succ_mul]
  have h2 : ∀ l : Nat, ns (sn S 8) (fun o => 1 + lW (fch S) 100 l (ofs (fDv S o))) = sn S 8 + ns (sn S 8) (fun o => lW (fch S) 100 l (ofs (fDv S o))) := fun l => by
    rw [ns_add, one, Nat.mul_one]
  rw [h1, ns_cg (g := fun l => 1 + (sn S 8 + ns (sn S 8) (fun o => lW (fch S) 100 l (ofs (fDv S o))))) (fun l _ => by rw [h2 l]), ns_add, ns_add, one, one, ns_swap]
  have h3 : ns (sn S 8) (fun j => ns (sn S 6) (fun i => lW (fch S) 100 i (ofs (fDv S j)))) = ns (sn S 8) (fun o => ((allL S).map (fun x => lW (fch S) 100 x (ofs (fDv S o)))).sum) := ns_cg (fun o _ => by
    unfold allL
    rw [sum_range])
  rw [h3, Nat.mul_comm (sn S 6) (sn S 8)]
  omega
end ZF22
