/-! THE ACCOUNT: what the calls cost, in terms of the structure -/
set_option maxRecDepth 100000
/-- the greatest of f 0 .. f (n - 1) -/
def mx : Nat → (Nat → Nat) → Nat
  | 0, _ => 0
  | n + 1, f => max (mx n f) (f n)
/-- trees of all delivered lots -/
def DT (X : hS) : Nat := ns (sn X 8) (fun o => ((ofs (fDv X o)).map (nT X)).sum)
section ZG11
variable {z : Nat → Nat} {k l o p : Nat} {S X Y : hS}
theorem mx_ge {f : Nat → Nat} {i : Nat} : ∀ {n : Nat}, i < n → f i ≤ mx n f
  | 0, h => absurd h (Nat.not_lt_zero i)
  | n + 1, h => by
    show f i ≤ max (mx n f) (f n)
    by_cases e : i = n
    · rw [e]; exact Nat.le_max_right _ _
    · exact Nat.le_trans (mx_ge (n := n) (by omega)) (Nat.le_max_left _ _)
theorem mx_le {f : Nat → Nat} {B : Nat} : ∀ {n : Nat}, (∀ i : Nat, i < n → f i ≤ B) → mx n f ≤ B
  | 0, _ => Nat.zero_le _
  | n + 1, h => by
    show max (mx n f) (f n) ≤ B
    exact Nat.max_le.mpr ⟨mx_le (fun i hi => h i (by omega)), h n (by omega)⟩
theorem mx_mono {f g : Nat → Nat} {m n : Nat} (hmn : m ≤ n) (h : ∀ i : Nat, i < m → f i ≤ g i) : mx m f ≤ mx n g :=
  mx_le (fun i hi => Nat.le_trans (h i hi) (mx_ge (by omega)))
theorem ns_const : ∀ n : Nat, ns n (fun _ => 1) = n
  | 0 => rfl
  | n + 1 => by
    show ns n (fun _ => 1) + 1 = n + 1
    rw [ns_const n]
theorem tWalk_tN {ch : Nat → List Nat} : ∀ n x i : Nat, tWalk ch n x i ≤ tN ch n i := walk_le
theorem nNd_le (hI : iAll z k S) (v : Int) : nNd S v ≤ mx (sn S 6) (nT S) := by
  unfold nNd
  by_cases h : 0 ≤ v ∧ v < sn S 6
  · rw [if_pos h]
    have h100 := hI.n100
    have e : tN (fch S) (v.toNat + 1) v.toNat = nT S v.toNat := tN_fuel (M := sn S 6) hI.chl (v.toNat + 1) 100 v.toNat (by omega) (by omega) (by omega)
    rw [e]
    exact mx_ge (f := nT S) (i := v.toNat) (by omega)
  · rw [if_neg h]; exact Nat.zero_le _
theorem nWk_le (u v : Int) : nWk S u v ≤ mx (sn S 6) (nT S) := by
  unfold nWk
  by_cases h : 0 ≤ u ∧ u < sn S 6 ∧ 0 ≤ v ∧ v < sn S 6
  · rw [if_pos h]
    exact Nat.le_trans (show _ ≤ nT S v.toNat from tWalk_tN 100 u.toNat v.toNat) (mx_ge (f := nT S) (i := v.toNat) (by omega))
  · rw [if_neg h]; exact Nat.zero_le _
theorem iw_nT (x y : Nat) : iw (fch S) 100 x y ≤ nT S y := by
  unfold iw
  split
  · exact Nat.zero_le _
  · exact tWalk_tN 100 x y
theorem lW_nT (x : Nat) : ∀ L : List Nat, lW (fch S) 100 x L ≤ (L.map (nT S)).sum
  | [] => Nat.le_refl _
  | y :: L => by
    have h1 := lW_nT x L
    have h2 := iw_nT (S := S) x y
    rw [lW_cons, List.map_cons, List.sum_cons]
    split <;> omega
theorem nTch_le (v : Int) : nTch S v ≤ 1 + (sn S 8 + DT S) := by
  unfold nTch
  by_cases h : 0 ≤ v ∧ v < sn S 6
  · rw [if_pos h, cntP_ns]
    refine Nat.add_le_add_left ?_ 1
    have h1 : ns (sn S 8) (fun o => (fInO S v.toNat o).2) ≤ ns (sn S 8) (fun o => 1 + ((ofs (fDv S o)).map (nT S)).sum) := ns_le (fun o _ => by
      rw [fInO_lW]
      exact Nat.add_le_add_left (lW_nT v.toNat _) 1)
    rw [ns_add] at h1
    have h2 := ns_const (sn S 8)
    unfold DT
    omega
  · rw [if_neg h]; exact Nat.zero_le _
/-- isSound's cost, the searches along the delivered lists as they are -/
theorem snd_le2 (hI : iAll z k S) : nSnd S ≤ 3 * sn S 8 + sn S 8 * (sn S 6 + 2) + (sn S 6 + sn S 8 * sn S 6 + FW S) + fPwalk S (sn S 6) := by
  have h1 := backW_le hI
  have h2 := forW_eq (S := S)
  have e : FW S = ns (sn S 8) (fun o => ((allL S).map (fun x => lW (fch S) 100 x (ofs (fDv S o)))).sum) := rfl
  rw [← e] at h2
  unfold nSnd
  omega
theorem nLin_le (hI : iAll z k S) (v : Int) : nLin S v ≤ 2 * sn S 6 + 1 + FW S := by
  unfold nLin
  by_cases h : 0 ≤ v ∧ v < sn S 8
  · obtain ⟨o, ho, ho8⟩ := idx h
    have eo : v.toNat = o := by omega
    rw [if_pos h, eo, cntP_ns]
    have h1 := rc_cost hI ho8
    have h2 : ns (sn S 6) (fun x => (fInO S x o).2) = ns (sn S 6) (fun x => 1 + lW (fch S) 100 x (ofs (fDv S o))) := ns_cg (fun x _ => fInO_lW)
    rw [h2, ns_add, ns_const]
    have h3 : ns (sn S 6) (fun x => lW (fch S) 100 x (ofs (fDv S o))) ≤ FW S := by
      refine Nat.le_trans ?_ (ns_ge (f := fun o => ((allL S).map (fun x => lW (fch S) 100 x (ofs (fDv S o)))).sum) ho8)
      rw [← sum_range (f := fun x => lW (fch S) 100 x (ofs (fDv S o)))]
      exact Nat.le_refl _
    omega
  · rw [if_neg h]; exact Nat.zero_le _
end ZG11
