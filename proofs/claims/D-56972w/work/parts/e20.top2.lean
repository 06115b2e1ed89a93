/-! THE ROOM: all lots looked for in delivered lots -/
set_option maxRecDepth 100000
/-- all lots; those below part B; bought ones -/
def allL (X : hS) : List Nat := List.range (sn X 6)
def nlb (X : hS) (B : Nat) : Nat := cnB X (allL X) B
def nboA (X : hS) : Nat := nbo X (allL X)
section ZE20
variable {z : Nat → Nat} {k : Nat} {X : hS} {r a : Nat}
theorem lW_fuel {ch : Nat → List Nat} {N : Nat} (hlt : ∀ i : Nat, i < N → ∀ y ∈ ch i, y < i) {n m x : Nat} : ∀ L : List Nat, (∀ y ∈ L, y < N ∧ y < n ∧ y < m) → lW ch n x L = lW ch m x L
  | [], _ => rfl
  | y :: L, h => by
    obtain ⟨h1, h2, h3⟩ := h y List.mem_cons_self
    rw [lW_cons, lW_cons, lW_fuel hlt L (fun d hd => h d (List.mem_cons_of_mem _ hd))]
    have e1 : inn ch n x y = inn ch m x y := by
      unfold inn
      rw [tHas_fuel hlt n m x y h1 h2 h3]
    have e2 : iw ch n x y = iw ch m x y := by
      unfold iw
      rw [tWalk_fuel hlt n m x y h1 h2 h3]
    rw [e1, e2]
theorem sum_le_map {f g : Nat → Nat} : ∀ U : List Nat, (∀ x ∈ U, f x ≤ 1 + g x) → (U.map f).sum ≤ U.length + (U.map g).sum
  | [], _ => Nat.le_refl _
  | x :: U, h => by
    have h1 := h x List.mem_cons_self
    have h2 := sum_le_map U (fun y hy => h y (List.mem_cons_of_mem _ hy))
    rw [List.map_cons, List.sum_cons, List.map_cons, List.sum_cons, List.length_cons]
    omega
/-- all lots looked for in lot r -/
theorem top_cost (hI : iAll z k X) (hL : iLt z X) (hC : iCk X) (hr : r < sn X 6) (hk : ∀ B : Nat, 0 < cT X (ptL X r) B → kB X B ≤ 62) :
    ((allL X).map (fun x => iw (fch X) 100 x r)).sum ≤ sn X 6 + ((fch X r).map (fun y => lam X y * nT X y)).sum + ns (np X) (fun B => if 0 < cT X (ptL X r) B then eaS X (nboA X) B (nlb X B) else 0) := by
  have h100 := hI.n100
  have hf := flT hI hL hC
  have hch := hI.chl r hr
  have hc : ∀ y ∈ fch X r, 0 < cT X (ptL X r) (ptL X y) := fun y hy => (hf.1 r y hr (by have := hch y hy; omega) (List.count_pos_iff.mpr hy)).2
  have h1 := list_late (a := nboA X) hI hL hC (fch X r) (allL X) (fun y hy => ⟨by have := hch y hy; omega, hk _ (hc y hy)⟩) List.nodup_range (fun x hx => List.mem_range.mp hx) (Nat.le_refl _)
  have h2 := sum_le_map (f := fun x => iw (fch X) 100 x r) (g := fun x => lW (fch X) 100 x (fch X r)) (allL X) (fun x _ => by
    show iw (fch X) 100 x r ≤ 1 + lW (fch X) 100 x (fch X r)
    rw [iw_in, lW_fuel hI.chl (n := 99) (m := 100) (fch X r) (fun y hy => by have := hch y hy; omega)]
    split <;> omega)
  have h3 : (allL X).length = sn X 6 := List.length_range
  have h4 : ns (np X) (fun B => if ((fch X r).any (fun y => decide (ptL X y = B))) = true then eaS X (nboA X) B (cnB X (allL X) B) else 0) ≤ ns (np X) (fun B => if 0 < cT X (ptL X r) B then eaS X (nboA X) B (nlb X B) else 0) := ns_le (fun B _ => by
    by_cases h : ((fch X r).any (fun y => decide (ptL X y = B))) = true
    · rw [if_pos h]
      obtain ⟨y, hy, hd⟩ := List.any_eq_true.mp h
      have hd := of_decide_eq_true hd
      have := hc y hy
      rw [hd] at this
      rw [if_pos this]
      exact Nat.le_refl _
    · rw [if_neg h]; exact Nat.zero_le _)
  omega
/-- along a list of lots, each looked through for all lots -/
theorem lW_tops : ∀ (D U : List Nat), (U.map (fun x => lW (fch X) 100 x D)).sum ≤ (D.map (fun r => (U.map (fun x => iw (fch X) 100 x r)).sum)).sum
  | [], U => by
    have : ∀ U : List Nat, (U.map (fun x => lW (fch X) 100 x [])).sum = 0 := by
      intro U
      induction U with
      | nil => rfl
      | cons x U ih => rw [List.map_cons, List.sum_cons, ih]; rfl
    rw [this]
    exact Nat.zero_le _
  | r :: D, U => by
    have ih := lW_tops D U
    rw [List.map_cons, List.sum_cons]
    have : ∀ U : List Nat, (U.map (fun x => lW (fch X) 100 x (r :: D))).sum ≤ (U.map (fun x => iw (fch X) 100 x r)).sum + (U.map (fun x => lW (fch X) 100 x D)).sum := by
      intro U
      induction U with
      | nil => exact Nat.le_refl _
      | cons x U ihU =>
        rw [List.map_cons, List.sum_cons, List.map_cons, List.sum_cons, List.map_cons, List.sum_cons, lW_cons]
        split <;> omega
    have := this U
    omega
end ZE20
