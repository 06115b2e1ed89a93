/-! THE ROOM: all lots looked for in one top: the top itself isn't outside, what its lists never reach isn't late -/
set_option maxRecDepth 100000
/-- all lots but r; entries of r on part B; what lies below B in no tree of r's lists -/
def allB (X : hS) (r : Nat) : List Nat := (allL X).filter (fun x => !(x == r))
def hasB (X : hS) (r B : Nat) : Bool := (fch X r).any (fun y => decide (ptL X y = B))
def vO (X : hS) (r B : Nat) : Nat := cnB X (outL X (allB X r) (fch X r)) B
section ZG26
variable {z : Nat → Nat} {k : Nat} {X : hS} {r y : Nat}
theorem not_in (hI : iAll z k X) (hL : iLt z X) (hC : iCk X) (hr : r < sn X 6) (hy : y ∈ fch X r) : hB X r y = false := by
  have hyr := hI.chl r hr y hy
  have hf := (flT hI hL hC).1 r y hr (by omega) (List.count_pos_iff.mpr hy)
  cases hh : hB X r y with
  | false => rfl
  | true =>
    rcases tree_lt hI hL hC (y + 1) y r (by omega) (by omega) (inn_tIn.mp hh) with e | ⟨-, e⟩
    · omega
    · have := hf.1
      omega
theorem out_lam (hI : iAll z k X) (hL : iLt z X) (hC : iCk X) (hr : r < sn X 6) (hy : y ∈ fch X r) : (out (fch X) 100 (allB X r) y).length ≤ lam X y - 1 := by
  have hU : ∀ x ∈ allB X r, x < sn X 6 ∧ x ≠ r := fun x hx => by
    obtain ⟨h1, h2⟩ := List.mem_filter.mp hx
    exact ⟨List.mem_range.mp h1, fun e => by rw [e] at h2; rw [beq_self_eq_true] at h2; exact absurd h2 (by decide)⟩
  have hnd : (out (fch X) 100 (allB X r) y).Nodup := (List.nodup_range.filter _).filter _
  have hnr : r ∉ out (fch X) 100 (allB X r) y := fun h => (hU r (List.mem_filter.mp h).1).2 rfl
  have h := ns_mem (n := sn X 6) (P := fun l => hB X l y = false) (f := fun _ => 1) (L := r :: out (fch X) 100 (allB X r) y) (List.nodup_cons.mpr ⟨hnr, hnd⟩) (fun x hx => by
    rcases List.mem_cons.mp hx with e | hx
    · rw [e]; exact ⟨hr, not_in hI hL hC hr hy⟩
    · obtain ⟨h1, h2⟩ := List.mem_filter.mp hx
      refine ⟨(hU x h1).1, ?_⟩
      unfold hB
      cases hh : inn (fch X) 100 x y with
      | true => rw [hh] at h2; exact absurd h2 (by decide)
      | false => rfl)
  have e : ∀ M : List Nat, (M.map (fun _ => 1)).sum = M.length := by
    intro M
    induction M with
    | nil => rfl
    | cons m M ih => rw [List.map_cons, List.sum_cons, ih, List.length_cons]; omega
  rw [e, List.length_cons] at h
  have h2 : ns (sn X 6) (fun l => if hB X l y = false then 1 else 0) = lam X y := by
    unfold lam
    refine ns_cg (fun l _ => ?_)
    cases hB X l y with
    | true => rw [if_neg (by decide), if_pos rfl]
    | false => rw [if_pos rfl, if_neg (by decide)]
  rw [h2] at h
  omega
/-- all lots looked for in lot r -/
theorem top_cost2 (hI : iAll z k X) (hL : iLt z X) (hC : iCk X) (hr : r < sn X 6) (hk : ∀ B : Nat, 0 < cT X (ptL X r) B → kB X B ≤ 62) :
    ((allL X).map (fun x => iw (fch X) 100 x r)).sum + ns (np X) (fun B => if hasB X r B = true then eaS X (nboA X) B (vO X r B) else 0) ≤ sn X 6 + ((fch X r).map (fun y => (lam X y - 1) * nT X y)).sum + ns (np X) (fun B => if hasB X r B = true then eaS X (nboA X) B (nlb X B) else 0) := by
  have hf := flT hI hL hC
  have hch := hI.chl r hr
  have hc : ∀ y ∈ fch X r, 0 < cT X (ptL X r) (ptL X y) := fun y hy => (hf.1 r y hr (by have := hch y hy; omega) (List.count_pos_iff.mpr hy)).2
  have e0 : ((allL X).map (fun x => iw (fch X) 100 x r)).sum = ((allB X r).map (fun x => iw (fch X) 100 x r)).sum := sum_filter (allL X) (fun x _ hx => by
    have hx : x = r := by
      cases hh : x == r with
      | true => exact beq_iff_eq.mp hh
      | false => rw [hh] at hx; exact absurd hx (by decide)
    rw [hx]
    unfold iw
    rw [if_pos (beq_self_eq_true r)])
  have hsub : ∀ x ∈ allB X r, x < sn X 6 := fun x hx => List.mem_range.mp (List.mem_filter.mp hx).1
  have hnb : nbo X (allB X r) ≤ nboA X := by
    unfold nboA nbo allB
    exact (List.Sublist.filter _ List.filter_sublist).length_le
  have h1 := list_late2 (a := nboA X) (μ := fun y => lam X y - 1) hI hL hC (fch X r) (allB X r) (fun y hy => ⟨by have := hch y hy; omega, hk _ (hc y hy)⟩) (List.nodup_range.filter _) hsub hnb (fun y hy => out_lam hI hL hC hr hy)
  have h2 := sum_le_map (f := fun x => iw (fch X) 100 x r) (g := fun x => lW (fch X) 100 x (fch X r)) (allB X r) (fun x _ => by
    show iw (fch X) 100 x r ≤ 1 + lW (fch X) 100 x (fch X r)
    rw [iw_in, lW_fuel hI.chl (n := 99) (m := 100) (fch X r) (fun y hy => by have := hch y hy; have := hI.n100; omega)]
    split <;> omega)
  have h3 : (allB X r).length ≤ sn X 6 := by
    have := List.length_filter_le (fun x => !(x == r)) (allL X)
    unfold allL at this
    rw [List.length_range] at this
    exact this
  have h4 : ns (np X) (fun B => if ((fch X r).any (fun y => decide (ptL X y = B))) = true then eaS X (nboA X) B (cnB X (allB X r) B) else 0) ≤ ns (np X) (fun B => if hasB X r B = true then eaS X (nboA X) B (nlb X B) else 0) := ns_le (fun B _ => by
    have hm : cnB X (allB X r) B ≤ nlb X B := by
      unfold nlb cnB allB
      exact (List.Sublist.filter _ List.filter_sublist).length_le
    have hm := eaS_mono (X := X) (a := nboA X) (B := B) hm
    unfold hasB
    split
    · exact hm
    · exact Nat.le_refl _)
  have h5 : ns (np X) (fun B => if hasB X r B = true then eaS X (nboA X) B (vO X r B) else 0) = ns (np X) (fun B => if ((fch X r).any (fun y => decide (ptL X y = B))) = true then eaS X (nboA X) B (cnB X (outL X (allB X r) (fch X r)) B) else 0) := rfl
  rw [e0, h5]
  omega
end ZG26
