/-! THE ROOM: a lot visited often, below the table; lots outside its tree don't count -/
set_option maxRecDepth 100000
/-- lots of lower parts outside y's tree -/
def uoL (X : hS) (y : Nat) : List Nat := (allL X).filter (fun l => decide (ptL X l < ptL X y) && !hB X l y)
section ZF20
variable {z : Nat → Nat} {k : Nat} {X : hS} {y r M : Nat}
theorem tree_closed (hI : iAll z k X) (hy : y < sn X 6) : ∀ q l : Nat, hB X q y = true → l ∈ fch X q → hB X l y = true := fun q l h hl =>
  inn_tIn.mpr (tIn_child hI.chl hI.n100 hl (y + 1) y (by omega) hy (inn_tIn.mp h))
theorem nT_load (hI : iAll z k X) (hL : iLt z X) (hC : iCk X) (hy : y < sn X 6) (hr : r < 32) (hM : M ≤ gR r) (hq : M ≤ qL X y) {Kf : Nat → Bool} (hcl : ∀ q l : Nat, Kf q = true → l ∈ fch X q → Kf l = true) (hk : Kf y = true) (h62 : ns (ptL X y) (ownP (cT X) (bKx X Kf) (mkL X)) ≤ 62) :
    M * nT X y ≤ gR r + jt 0 (cN X (ptL X y)) r (ns (ptL X y) (ownP (cT X) (bKx X Kf) (mkL X))) := by
  obtain ⟨p, hp, -, -, e3⟩ := ptL_at hI hy
  have et : ptK X Kf y = ptL X y := if_pos hk
  have en : nK X Kf y = nT X y := if_pos hk
  have h := flowK (Kf := Kf) hI hL hC hcl (ptL X y) (fun x => if x = y then M else 0) 0 (gR r) (fun V => by
    rw [Nat.zero_add]
    refine pS_le (fun x _ _ _ => ?_)
    show (if x = y then M else 0) ≤ qL X x
    split
    · rename_i e
      rw [e]; exact hq
    · exact Nat.zero_le _) (by
    rw [Nat.zero_add]
    refine Nat.le_trans ?_ hM
    have e := ns_one (j := y) (v := M) hy
    refine Nat.le_trans (ns_le (g := fun x => if x = y then M else 0) (fun x _ => ?_)) (Nat.le_of_eq e)
    split
    · exact Nat.le_refl _
    · exact Nat.zero_le _)
  rw [Nat.mul_zero, Nat.zero_add] at h
  have g := ns_ge (f := fun x => if ptK X Kf x = ptL X y ∧ (fun _ => true) x = true then (fun x => (if x = y then M else 0) * nK X Kf x) x else 0) hy
  rw [if_pos ⟨et, rfl⟩] at g
  have e1 : (fun x => (if x = y then M else 0) * nK X Kf x) y = M * nT X y := by
    show (if y = y then M else 0) * nK X Kf y = _
    rw [if_pos rfl, en]
  rw [e1] at g
  have h1 := Nat.le_trans g h
  rw [ho_cg (cap' := capP (bKx X Kf) (mkL X)) (fun B hB => capK_eq (by omega))] at h1
  have h2 := (skel_tab (c := cT X) (b := bKx X Kf) (mk := mkL X) (fun A => (skC hI A).1) (fun A hA => (skC hI A).2 hA) (ptL X y) h62).1 0 r (by decide) hr
  rw [Nat.mul_zero, Nat.zero_mul, Nat.zero_mul, Nat.zero_add] at h2
  unfold cN
  omega
/-- the lots outside a lot's tree -/
theorem lam_eq (hI : iAll z k X) (hL : iLt z X) (hC : iCk X) (hy : y < sn X 6) : lam X y + nlb X (ptL X y) + 1 = (uoL X y).length + sn X 6 := by
  have hcnt : ∀ (n : Nat) (P : Nat → Bool), ((List.range n).filter P).length = ns n (fun l => if P l = true then 1 else 0) := by
    intro n P
    induction n with
    | zero => rfl
    | succ n ih =>
      rw [List.range_succ, List.filter_append, List.length_append, ih, List.filter_cons, List.filter_nil]
      show _ = ns n (fun l => if P l = true then 1 else 0) + (if P n = true then 1 else 0)
      cases P n with
      | true => rw [if_pos rfl, if_pos rfl]; rfl
      | false => rw [if_neg Bool.false_ne_true, if_neg Bool.false_ne_true]; rfl
  have e1 : nlb X (ptL X y) = ns (sn X 6) (fun l => if decide (ptL X l < ptL X y) = true then 1 else 0) := hcnt _ _
  have e2 : (uoL X y).length = ns (sn X 6) (fun l => if (decide (ptL X l < ptL X y) && !hB X l y) = true then 1 else 0) := hcnt _ _
  have e3 : sn X 6 = ns (sn X 6) (fun _ => 1) := by
    have : ∀ n : Nat, ns n (fun _ => 1) = n := by
      intro n
      induction n with
      | zero => rfl
      | succ n ih => show ns n (fun _ => 1) + 1 = n + 1; rw [ih]
    exact (this _).symm
  have e4 : ns (sn X 6) (fun l => if l = y then 1 else 0) = 1 := ns_one hy
  have e5 : lam X y + ns (sn X 6) (fun l => if decide (ptL X l < ptL X y) = true then 1 else 0) + ns (sn X 6) (fun l => if l = y then 1 else 0) = ns (sn X 6) (fun l => if (decide (ptL X l < ptL X y) && !hB X l y) = true then 1 else 0) + ns (sn X 6) (fun _ => 1) := by
    unfold lam
    rw [← ns_add, ← ns_add, ← ns_add]
    refine ns_cg (fun l hl => ?_)
    by_cases hly : l = y
    · subst hly
      have h1 : hB X l l = true := inn_tIn.mpr (Or.inl rfl)
      have h2 : decide (ptL X l < ptL X l) = false := decide_eq_false (Nat.lt_irrefl _)
      rw [h1, h2]
      simp
    · rw [if_neg hly]
      cases hb : hB X l y with
      | true =>
        rcases tree_lt hI hL hC (y + 1) y l (by omega) hy (inn_tIn.mp hb) with e | ⟨-, e⟩
        · exact absurd e hly
        · rw [decide_eq_true e]
          simp
      | false =>
        cases decide (ptL X l < ptL X y) <;> simp
  omega
/-- a lot's visits, each counted for all lots outside its tree -/
theorem load_tab (hI : iAll z k X) (hL : iLt z X) (hC : iCk X) (hy : y < sn X 6) (hr : r < 32) (hM : M ≤ gR r) (hq : M ≤ qL X y) (h62 : kB X (ptL X y) ≤ 62) :
    M * nT X y ≤ gR r + jt 0 (cN X (ptL X y)) r (kB X (ptL X y) - (uoL X y).length) ∧ (uoL X y).length ≤ kB X (ptL X y) := by
  obtain ⟨p, hp, -, -, e3⟩ := ptL_at hI hy
  have hs := own_sub (X := X) (A := ptL X y) (by omega) (V := fun l => hB X l y) (L := uoL X y) (List.nodup_range.filter _) (fun l hl => by
    obtain ⟨h1, h2⟩ := List.mem_filter.mp hl
    rw [Bool.and_eq_true] at h2
    refine ⟨List.mem_range.mp h1, of_decide_eq_true h2.1, ?_⟩
    have := h2.2
    cases hh : hB X l y with
    | true => rw [hh] at this; exact absurd this (by decide)
    | false => rfl)
  have hw := wt_sum (X := X) (uoL X y)
  have hn : nbo X (uoL X y) ≤ (uoL X y).length := List.length_filter_le _ _
  have h1 := nT_load hI hL hC hy hr hM hq (Kf := fun l => hB X l y) (tree_closed hI hy) (inn_tIn.mpr (Or.inl rfl)) (by omega)
  have hm := J_mono (i := 0) (c := cN X (ptL X y)) (r := r) (by decide) (skC hI _).1 hr (show ns (ptL X y) (ownP (cT X) (bKx X (fun l => hB X l y)) (mkL X)) ≤ kB X (ptL X y) - (uoL X y).length by omega) (by omega)
  exact ⟨by omega, by omega⟩
end ZF20
