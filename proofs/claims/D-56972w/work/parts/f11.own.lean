/-! THE ROOM: components only grow; an order's own lot has the order's list -/
set_option maxRecDepth 100000
/-- an order's own lot bears its list -/
def i8 (X : hS) : Prop := ∀ o : Nat, o < sn X 8 → 0 ≤ sT X 8 13 o → sT X 8 13 o < sn X 6 ∧ sT X 6 3 (sT X 8 13 o).toNat = sT X 8 5 o
section ZF11
variable {z : Nat → Nat} {k k2 o l A B : Nat} {X Y S S2 T G : hS}
/-- components are never taken away -/
theorem cT_gW (g : gW z X Y) (hI : iAll z k X) (h : cT Y A B = 0) : cT X A B = 0 := by
  refine Decidable.byContradiction (fun hne => ?_)
  have hpos : 0 < cT X A B := by omega
  unfold cT at hpos
  split at hpos
  · rename_i hA
    have hAY : A < np Y := Nat.lt_of_lt_of_le hA g.2.2.2.2.2.2.1.1
    unfold cT at h
    rw [if_pos hAY] at h
    unfold cL cP at hpos h
    have ePc : fPc Y A = fPc X A := g.2.2.2.2.2.2.1.2 A hA
    rw [ePc] at h
    split at hpos
    · rename_i hev
      rw [if_pos hev] at h
      have hm := List.count_pos_iff.mp hpos
      obtain ⟨j, hj, hjB⟩ := List.mem_map.mp hm
      rcases hI.pt.pc hA with ⟨q1, q2, q3⟩ | ⟨q1, q2, q3⟩
      · obtain ⟨ys, hy⟩ := g.2.2.2.2.2.2.2.1 _ q2
        have h1 := hI.pt.2.2.2.2.2.1 _ q2 j hj
        have e4 := g.2.2.2.1.2 0 j.toNat (by omega)
        have hin : B ∈ (sE Y 24 (fPc X A / 2)).map (fun j => (sT Y 4 0 j.toNat).toNat) := by
          rw [hy]
          exact List.mem_map.mpr ⟨j, List.mem_append.mpr (Or.inl hj), by show (sT Y 4 0 j.toNat).toNat = B; rw [e4]; exact hjB⟩
        have := List.count_pos_iff.mpr hin
        omega
      · omega
    · exact absurd hpos (by rw [List.count_nil]; omega)
  · omega
theorem shpC.own (h : shpC z X Y) (hp : iPq X) (h8 : i8 X) : i8 Y ∧ sn Y 8 = sn X 8 ∧ sn X 6 ≤ sn Y 6 := by
  refine h (fun B => i8 B ∧ sn B 8 = sn X 8 ∧ sn X 6 ≤ sn B 6) (fun A B g _ w => ?_) (fun A o g _ _ w => ?_) hp ⟨h8, rfl, Nat.le_refl _⟩
  · obtain ⟨w1, w2, w3⟩ := w
    obtain ⟨-, g2, g3, -, -, g6, g7, -⟩ := g
    refine ⟨fun o ho h0 => ?_, g6.trans w2, by omega⟩
    rw [g6] at ho
    have e13 := g7 13 o (by omega)
    rw [e13] at h0
    obtain ⟨a, b⟩ := w1 o ho h0
    rw [e13, g2, g3 3 _ (by decide), g7 5 o (by omega)]
    exact ⟨a, b⟩
  · obtain ⟨w1, w2, w3⟩ := w
    obtain ⟨f1, f2, f3, f4, f5, f6, f7⟩ := g
    refine ⟨fun q hq h0 => ?_, fB_n8.trans w2, by rw [fB_n6]; omega⟩
    by_cases e : q = o
    · subst e
      rw [fB_813, fB_n6, Int.toNat_natCast, fB_6n (j := 3) (by decide), fB_8 (by omega)]
      refine ⟨by omega, ?_⟩
      show ((fOL A q : Nat) : Int) = _
      unfold fOL; omega
    · rw [fB_8 (by omega)] at h0
      obtain ⟨a, b⟩ := w1 q hq h0
      rw [fB_8 (by omega), fB_n6, fB_6 (by omega), fB_8 (by omega)]
      exact ⟨by omega, b⟩
/-- where stages and own lots of orders stay -/
theorem i8_of (g : gW z X Y) (h13 : ∀ o : Nat, o < sn Y 8 → 0 ≤ sT Y 8 13 o → o < sn X 8 ∧ sT Y 8 13 o = sT X 8 13 o) (h8 : i8 X) : i8 Y := fun o ho h0 => by
  obtain ⟨a, b⟩ := h13 o ho h0
  rw [b] at h0 ⊢
  obtain ⟨c, d⟩ := h8 o a h0
  have := g.1.1
  rw [g.1.2 3 _ (by omega) (by decide), g.2.2.1.2 5 o a (by decide)]
  exact ⟨by omega, d⟩
/-- delivered orders keep what they were delivered -/
def d5 (z : Nat → Nat) (X Y : hS) : Prop := ∀ o : Nat, o < sn Y 8 → sT Y 8 7 o = (z 5 : Nat) → o < sn X 8 ∧ sT X 8 7 o = (z 5 : Nat)
/-- while nothing is scrapped or put on hold: of a part that no other needs, every order is delivered its own lot -/
def i6 (z : Nat → Nat) (X : hS) : Prop := ∀ o : Nat, o < sn X 8 → (sT X 8 1 o).toNat % 2 = 0 → sT X 8 7 o = (z 5 : Nat) → (∀ A : Nat, cT X A (ptL X (sT X 8 13 o).toNat) = 0) → ofs (fDv X o) = [(sT X 8 13 o).toNat]
theorem i6_at (g : gW z X Y) (hI : iAll z k X) (h0 : i0 z X) (h : i6 z X) (ho : o < sn X 8) (hm : (sT X 8 1 o).toNat % 2 = 0) (h5 : sT X 8 7 o = (z 5 : Nat)) (hc : ∀ A : Nat, cT Y A (ptL Y (sT Y 8 13 o).toNat) = 0) : ofs (fDv Y o) = [(sT Y 8 13 o).toNat] := by
  obtain ⟨-, b⟩ := h0 o ho hm 5 (by decide) (by decide) h5
  obtain ⟨b1, -⟩ := b (by decide)
  have h13 := (hI.or o ho).2.2.2.2.2.2.2.2.2.2.1
  have e13 := (g.2.2.2.2.2.2.2.2.1 o 5 ho (by decide) (by decide) h5).2.2.2 b1
  rw [e13] at hc ⊢
  rw [pt_gW g hI (by omega)] at hc
  rw [fDv_gW g hI ho (g.2.2.2.2.2.2.2.2.2.1 o ho h5)]
  exact h o ho hm h5 (fun A => cT_gW g hI (hc A))
theorem i6_of (g : gW z X Y) (hI : iAll z k X) (h0 : i0 z X) (hd : d5 z X Y) (h : i6 z X) : i6 z Y := fun o ho hm h5 hc => by
  obtain ⟨a, b⟩ := hd o ho h5
  rw [g.2.2.1.2 1 o a (by decide)] at hm
  exact i6_at g hI h0 h a hm b hc
/-- what an order is delivered is of its part -/
def i9 (X : hS) : Prop := ∀ o : Nat, o < sn X 8 → ∀ e ∈ fDv X o, sT X 6 1 e.1.toNat = sT X 8 1 o
theorem i9_of (g : gW z X Y) (hI : iAll z k X) (hI2 : iAll z k2 Y) (hd : d5 z X Y) (h : i9 X) : i9 Y := fun o ho e he => by
  have h5 : sT Y 8 7 o = (z 5 : Nat) := Decidable.byContradiction (fun w => by
    have := (hI2.em o ho).2.1 w
    unfold fDv at he
    rw [this] at he
    exact absurd he List.not_mem_nil)
  obtain ⟨a, b⟩ := hd o ho h5
  rw [fDv_gW g hI a (g.2.2.2.2.2.2.2.2.2.1 o a b)] at he
  have := fDv_at hI a e he
  rw [g.1.2 1 _ (by omega) (by decide), g.2.2.1.2 1 o a (by decide)]
  exact h o a e he
end ZF11
