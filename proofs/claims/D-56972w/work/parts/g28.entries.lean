/-! ENTRIES: what reserving puts into an order's list, at most -/
set_option maxRecDepth 100000
section ZG28
variable {z : Nat → Nat} {k o : Nat} {S X Y : hS}
theorem fl_len : ∀ cs : List (Int × List (Int × Int)), (∀ c ∈ cs, c.2 ≠ []) → ((cs.map Prod.snd).flatten).length = (nlL cs).length + cs.length
  | [], _ => rfl
  | c :: cs, h => by
    have e : nlL (c :: cs) = (c.2.dropLast).map Prod.fst ++ nlL cs := by
      unfold nlL
      rw [List.map_cons, List.flatten_cons]
    have h0 : 1 ≤ c.2.length := Nat.pos_of_ne_zero (fun e => h c (List.mem_cons_self ..) (List.eq_nil_of_length_eq_zero e))
    have ih := fl_len cs (fun d hd => h d (List.mem_cons_of_mem _ hd))
    rw [e, List.map_cons, List.flatten_cons, List.length_append, List.length_append, List.length_map, List.length_dropLast, ih, List.length_cons]
    omega
/-- the list while all components were met -/
theorem ranT (hnew : sE S 26 (fOL S o) = []) (h2 : 1 ≤ sT S 8 2 o) (h4 : ∀ j ∈ fComps S o, 1 ≤ sT S 4 1 j.toNat) {p : Nat} (hp : p ≤ (fComps S o).length) (ht : (fRAN S o p).2.1 = true) : (sE (fRAN S o p).1 26 (fOL S o)).length ≤ sn S 6 + p := by
  obtain ⟨-, g2⟩ := ranG (S := S) (o := o) hnew h2 h4 p hp
  obtain ⟨cs, e1, ⟨c1, c2, c3, -⟩, -⟩ := g2 ht
  have e : (tlL (fRAN S o p).1 (fOL S o)).length = (sE (fRAN S o p).1 26 (fOL S o)).length := by
    unfold tlL
    rw [List.length_map]
  rw [← e, ← e1, fl_len cs (fun c hc => (c2 c hc).1)]
  have n1 : (nlL cs).length ≤ sn S 6 := nodup_len c3 (fun x hx => by
    obtain ⟨c, hc, en, hen, rfl⟩ := nl_mem hx
    obtain ⟨l, hl, e, -⟩ := (c2 c hc).2.1 en hen
    omega)
  have n2 : cs.length ≤ p := by
    have h := c1.length_le
    rw [List.length_map, List.length_take] at h
    omega
  omega
/-- the list at any time of reserving -/
theorem ranE (hnew : sE S 26 (fOL S o) = []) (h2 : 1 ≤ sT S 8 2 o) (h4 : ∀ j ∈ fComps S o, 1 ≤ sT S 4 1 j.toNat) : ∀ p : Nat, p ≤ (fComps S o).length → (sE (fRAN S o p).1 26 (fOL S o)).length ≤ 2 * sn S 6 + p := by
  intro p
  induction p with
  | zero =>
    intro _
    show (sE S 26 (fOL S o)).length ≤ _
    rw [hnew]
    exact Nat.zero_le _
  | succ p ih =>
    intro hp
    have ih := ih (by omega)
    obtain ⟨hG, -⟩ := ranG (S := S) (o := o) hnew h2 h4 p (by omega)
    have hT := fun ht => ranT (S := S) (o := o) hnew h2 h4 (p := p) (by omega) ht
    have hkk : (fComps S o)[p]? = some ((fComps S o)[p]'(by omega)) := List.getElem?_eq_getElem (by omega)
    generalize hK : (fComps S o)[p]'(by omega) = kk at hkk
    rw [fRAN_succ hkk]
    generalize hF : fRAN S o p = F at *
    obtain ⟨XF, tF, aF, bF⟩ := F
    simp only at ih hG hT
    have n6 : sn XF 6 = sn S 6 := hG.1 6 (by decide)
    unfold fRAstep
    simp only
    split
    · simp only
      omega
    · split
      · have cL := fResL (S := XF) (m := fOL S o) (pt := sT XF 4 0 kk.toNat) (n := sT XF 8 2 o * sT XF 4 1 kk.toNat) (sn XF 6)
        have := hT (by cases tF with
          | true => rfl
          | false => exact absurd rfl ‹_›)
        simp only
        omega
      · simp only
        omega
end ZG28
