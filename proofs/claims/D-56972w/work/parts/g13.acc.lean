/-! THE ACCOUNT: what is carried from call to call -/
set_option maxRecDepth 100000
/-- an order's part -/
def pO (X : hS) (o : Nat) : Nat := (sT X (2 + (sT X 8 1 o).toNat % 2) 0 ((sT X 8 1 o).toNat / 2)).toNat
/-- small sums of isSound -/
def smS (X : hS) : Nat := 3 * sn X 8 + sn X 8 * (sn X 6 + 2) + (sn X 6 + sn X 8 * sn X 6) + 8
/-- deliveries; charged orders: their promises or releases; promised orders at most -/
def DLs (z : Nat → Nat) (X : hS) : Nat := ns (sn X 8) (fun o => if db z X o = true then 2 * sA X (pO X o) + 4 * sn X 6 + 15 else 0)
def RLs (X : hS) (ch : Nat → Bool) : Nat := ns (sn X 8) (fun o => if ch o = true then 2 * EWs X (pO X o) + 20 * sn X 6 + 31 else 0)
def xN (X : hS) (ch : Nat → Bool) (p : Nat) : Nat := ns (sn X 8) (fun o => if ch o = true ∧ pO X o = p then 1 else 0)
def HX (X : hS) (ch : Nat → Bool) : Nat := ns (np X) (fun p => ho (cT X) (bL X) (capL X) p (xN X ch p))
def chN (X : hS) (ch : Nat → Bool) : Nat := ns (sn X 8) (fun o => if ch o = true then 1 else 0)
/-- any other call -/
def MG (X : hS) : Nat := max 4700 (max (2 * mx (np X) (EWs X) + 20 * sn X 6 + 31) (max (2 * mx (np X) (sA X) + 4 * sn X 6 + 15) (max (2 * mx (sn X 6) (nT X) + 1) (2 * (1 + (sn X 8 + DT X)) + 1))))
section ZG13
variable {z : Nat → Nat} {k l o p A B : Nat} {X Y : hS} {ch ch' : Nat → Bool}
theorem pO_at (hI : iAll z k X) (hp : p < np X) (e : sT X 8 1 o = (fPc X p : Nat)) : pO X o = p := by
  unfold pO
  rw [e, Int.toNat_natCast]
  rcases hI.pt.pc hp with ⟨q1, q2, q3⟩ | ⟨q1, q2, q3⟩
  · rw [q1, q3, Int.toNat_natCast]
  · rw [q1, q3, Int.toNat_natCast]
theorem pO_ex (hI : iAll z k X) (ho : o < sn X 8) : pO X o < np X ∧ sT X 8 1 o = (fPc X (pO X o) : Nat) := by
  obtain ⟨p, hp, e⟩ := (hI.or o ho).2.1
  have := pO_at hI hp e
  rw [this]
  exact ⟨hp, e⟩
theorem pO_gW (g : gW z X Y) (hI : iAll z k X) (hI2 : iAll z (k + 1) Y) (ho : o < sn X 8) : pO Y o = pO X o := by
  obtain ⟨hp, e⟩ := pO_ex hI ho
  refine pO_at hI2 (Nat.lt_of_lt_of_le hp g.2.2.2.2.2.2.1.1) ?_
  rw [g.2.2.1.2 1 o ho (by decide), e, g.2.2.2.2.2.2.1.2 (pO X o) hp]
theorem DT_gW (g : gW z X Y) (hI : iAll z k X) : DT X ≤ DT Y := by
  refine Nat.le_trans ?_ (ns_up g.2.2.1.1)
  refine ns_le (fun o ho => ?_)
  by_cases h5 : sT X 8 7 o = (z 5 : Nat)
  · rw [fDv_gW g hI ho (g.2.2.2.2.2.2.2.2.2.1 o ho h5)]
    have e : (ofs (fDv X o)).map (nT Y) = (ofs (fDv X o)).map (nT X) := List.map_congr_left (fun r hr => by
      obtain ⟨e, he, rfl⟩ := List.mem_map.mp hr
      have := fDv_at hI ho e he
      exact nT_gW g hI (by omega))
    rw [e]
    exact Nat.le_refl _
  · have e0 : fDv X o = [] := by
      unfold fDv
      rw [(hI.em o ho).2.1 h5]; rfl
    rw [e0]
    exact Nat.zero_le _
theorem max4 {a b c d e b' c' d' e' : Nat} (h1 : b ≤ b') (h2 : c ≤ c') (h3 : d ≤ d') (h4 : e ≤ e') : max a (max b (max c (max d e))) ≤ max a (max b' (max c' (max d' e'))) := by omega
theorem MG_gW (g : gW z X Y) (hI : iAll z k X) : MG X ≤ MG Y := by
  have h1 : mx (np X) (EWs X) ≤ mx (np Y) (EWs Y) := mx_mono g.2.2.2.2.2.2.1.1 (fun i _ => EWs_gW g hI)
  have h2 : mx (np X) (sA X) ≤ mx (np Y) (sA Y) := mx_mono g.2.2.2.2.2.2.1.1 (fun i _ => sA_gW g hI)
  have h3 : mx (sn X 6) (nT X) ≤ mx (sn Y 6) (nT Y) := mx_mono g.1.1 (fun i hi => Nat.le_of_eq (nT_gW g hI hi).symm)
  have h4 := DT_gW g hI
  have h5 := g.1.1
  have h6 := g.2.2.1.1
  unfold MG
  refine max4 ?_ ?_ ?_ ?_ <;> omega
theorem smS_gW (g : gW z X Y) : smS X ≤ smS Y := by
  have h5 := g.1.1
  have h6 := g.2.2.1.1
  have h7 : sn X 8 * (sn X 6 + 2) ≤ sn Y 8 * (sn Y 6 + 2) := Nat.mul_le_mul h6 (by omega)
  have h8 : sn X 8 * sn X 6 ≤ sn Y 8 * sn Y 6 := Nat.mul_le_mul h6 h5
  unfold smS
  omega
theorem DLs_gW (g : gW z X Y) (hI : iAll z k X) (hI2 : iAll z (k + 1) Y) (h5 : ∀ o : Nat, o < sn X 8 → db z X o = true → db z Y o = true) : DLs z X ≤ DLs z Y := by
  refine Nat.le_trans ?_ (ns_up g.2.2.1.1)
  refine ns_le (fun o ho => ?_)
  by_cases h : db z X o = true
  · rw [if_pos h, if_pos (h5 o ho h), pO_gW g hI hI2 ho]
    have h1 := sA_gW (A := pO X o) g hI
    have h2 := g.1.1
    omega
  · rw [if_neg h]; exact Nat.zero_le _
theorem RLs_gW (g : gW z X Y) (hI : iAll z k X) (hI2 : iAll z (k + 1) Y) : RLs X ch ≤ RLs Y ch := by
  refine Nat.le_trans ?_ (ns_up g.2.2.1.1)
  refine ns_le (fun o ho => ?_)
  by_cases h : ch o = true
  · rw [if_pos h, if_pos h, pO_gW g hI hI2 ho]
    have h1 := EWs_gW (p := pO X o) g hI
    have h2 := g.1.1
    omega
  · rw [if_neg h]; exact Nat.zero_le _
theorem xN_gW (g : gW z X Y) (hI : iAll z k X) (hI2 : iAll z (k + 1) Y) : xN X ch p ≤ xN Y ch p := by
  refine Nat.le_trans ?_ (ns_up g.2.2.1.1)
  refine ns_le (fun o ho => ?_)
  rw [pO_gW g hI hI2 ho]
  exact Nat.le_refl _
/-- the structure's numbers grow with the structure -/
theorem ao_grow {c c' b b' : Nat → Nat → Nat} {f f' : Nat → Nat} (hc : ∀ A B : Nat, c A B ≤ c' A B) (hf : ∀ B : Nat, f B ≤ f' B) : ∀ A : Nat, ao c f A ≤ ao c' f' A := by
  intro A
  induction A using Nat.strongRecOn with
  | ind A ih =>
    rw [ao_rec A, ao_rec A]
    refine ns_le (fun B hB => ?_)
    by_cases hp : 0 < c A B ∧ 0 < f B
    · have h1 := hc A B
      have h2 := hf B
      rw [if_pos hp, if_pos ⟨by omega, by omega⟩]
      exact Nat.mul_le_mul (by omega) (Nat.add_le_add_left (ih B hB) 1)
    · rw [if_neg hp]; exact Nat.zero_le _
theorem ho_grow {c c' : Nat → Nat → Nat} {f f' cap cap' : Nat → Nat} (hc : ∀ A B : Nat, c A B ≤ c' A B) (hf : ∀ B : Nat, f B ≤ f' B) (hk : ∀ B : Nat, cap B ≤ cap' B) : ∀ A R R' : Nat, R ≤ R' → ho c f cap A R ≤ ho c' f' cap' A R' := by
  intro A
  induction A using Nat.strongRecOn with
  | ind A ih =>
    intro R R' hR
    rw [ho_rec A R, ho_rec A R']
    refine ns_le (fun B hB => ?_)
    by_cases hp : 0 < c A B ∧ 0 < f B
    · have h1 := hc A B
      have h2 := hf B
      have h3 := hk B
      rw [if_pos hp, if_pos ⟨by omega, by omega⟩]
      have h4 : c A B * R ≤ c' A B * R' := Nat.mul_le_mul h1 hR
      have h5 : (f B - 1) * R * (1 + ao c f B) ≤ (f' B - 1) * R' * (1 + ao c' f' B) := Nat.mul_le_mul (Nat.mul_le_mul (by omega) hR) (Nat.add_le_add_left (ao_grow (b := c) (b' := c) hc hf B) 1)
      have h6 : min (c A B * R) (cap B) ≤ min (c' A B * R') (cap' B) := by omega
      have h7 := ih B hB _ _ h6
      omega
    · rw [if_neg hp]; exact Nat.zero_le _
end ZG13
