/-! THE ACCOUNT: what holds and measurings cost on Foundrymark's side -/
set_option maxRecDepth 100000
/-- entries of a promised order: their trees -/
def prW (z : Nat → Nat) (X : hS) (o : Nat) : Nat := if sT X 8 7 o = (z 1 : Nat) then ((ofs (fTl X o)).map (nT X)).sum else 0
section ZG8
variable {z : Nat → Nat} {k n o l : Nat} {X T : hS}
theorem sum2 {M N : Nat → Nat} (h : ∀ l : Nat, M l ≤ N l) {f g : Int → Nat} (hfg : ∀ t : Int, f t = g t) : ∀ L : List Int, (L.map (fun t => M (f t))).sum ≤ (L.map (fun t => N (g t))).sum
  | [] => Nat.le_refl _
  | t :: L => by
    rw [List.map_cons, List.sum_cons, List.map_cons, List.sum_cons]
    have h1 := sum2 h hfg L
    have h2 := h (f t)
    rw [hfg t] at h2 ⊢
    exact Nat.add_le_add h2 h1
theorem prW_eq : ((ofs (fTl X o)).map (nT X)).sum = ((sE X 26 (fOL X o)).map (fun t => nT X (sT X 7 0 t.toNat).toNat)).sum := by
  unfold ofs fTl
  rw [List.map_map, List.map_map]
  rfl
theorem nT_le (hch : ∀ i : Nat, fch T i = fch X i ∨ fch T i = []) (l : Nat) : nT T l ≤ nT X l := tN_less hch 100 l
theorem loseC_eq : fLoseC z T n = 1 + if sT T 8 7 n = (z 1 : Nat) then ((sE T 26 (fOL T n)).map (fun t => nT T (sT T 7 0 t.toNat).toNat)).sum else 0 := rfl
theorem loseC_le (hch : ∀ i : Nat, fch T i = fch X i ∨ fch T i = []) (h7 : ∀ j t : Nat, sT T 7 j t = sT X 7 j t) (hOL : fOL T n = fOL X n) (h26 : sE T 26 (fOL X n) = sE X 26 (fOL X n) ∨ sE T 26 (fOL X n) = []) (hst : sT T 8 7 n = (z 1 : Nat) → sT X 8 7 n = (z 1 : Nat)) :
    fLoseC z T n ≤ 1 + prW z X n := by
  rw [loseC_eq]
  unfold prW
  rw [prW_eq, hOL]
  have hN := nT_le hch
  generalize nT T = M at hN ⊢
  generalize nT X = N at hN ⊢
  by_cases h : sT T 8 7 n = (z 1 : Nat)
  · rw [if_pos h, if_pos (hst h)]
    refine Nat.add_le_add_left ?_ 1
    rcases h26 with e | e
    · rw [e]
      exact sum2 hN (fun t => by rw [h7]) _
    · rw [e]; exact Nat.zero_le _
  · rw [if_neg h]; exact Nat.le_add_right _ _
theorem lose_cost (hz : zInj z) : ∀ n : Nat, (fLoseN z X n).2.2 ≤ 1 + ns n (fun o => 2 + prW z X o) := by
  intro n
  induction n with
  | zero => exact Nat.le_refl _
  | succ n ih =>
    obtain ⟨a, b, c⟩ := lose_st (z := z) (X := X) n
    obtain ⟨-, l2, l3, -⟩ := lE_lose (z := z) (X := X) n
    have sF : fLoseN z X (n + 1) = fLoseStep z (fLoseN z X n) n := fLoseN_succ'
    have hch : ∀ i : Nat, fch (fLoseN z X n).1 i = fch X i ∨ fch (fLoseN z X n).1 i = [] := fun i => by
      unfold fch
      rw [a 3 i (by decide)]
      rcases l3 (sT X 6 3 i).toNat with e | e
      · rw [e]
        exact Or.inl (List.map_congr_left (fun t _ => by rw [b]))
      · rw [e]; exact Or.inr rfl
    have hC : fLoseC z (fLoseN z X n).1 n ≤ 1 + prW z X n := loseC_le hch b (l2 n).1 (l3 (fOL X n)) (fun h => by
      rcases c n with w | w
      · rw [← w]; exact h
      · have e0 : ((z 0 : Nat) : Int) = (z 1 : Nat) := w.symm.trans h
        exact absurd (hz 0 1 (by decide) (by decide) (Int.ofNat.inj e0)) (by decide))
    rw [sF]
    clear sF hch a b c l2 l3
    have hs : (fLoseStep z (fLoseN z X n) n).2.2 ≤ (fLoseN z X n).2.2 + fLoseC z (fLoseN z X n).1 n + 1 := by
      unfold fLoseStep
      split
      · exact Nat.le_refl _
      · exact Nat.le_succ _
    show _ ≤ 1 + (ns n (fun o => 2 + prW z X o) + (2 + prW z X n))
    generalize (fLoseStep z (fLoseN z X n) n).2.2 = P at hs ⊢
    generalize (fLoseN z X n).2.2 = Q at hs ih
    generalize fLoseC z (fLoseN z X n).1 n = R at hs hC
    omega
end ZG8
