/-! THE ACCOUNT: what the costs are made of only grows -/
set_option maxRecDepth 100000
/-- isSound's searches; trees of lots that can be reserved; a promise's walks -/
def FW (X : hS) : Nat := ns (sn X 8) (fun o => ((allL X).map (fun x => lW (fch X) 100 x (ofs (fDv X o)))).sum)
def PW (X : hS) : Nat := ns (sn X 6) (fun l => if ndd X (ptL X l) = true then nT X l else 0)
def EWs (X : hS) (p : Nat) : Nat := ns p (fun B => cT X p B * sA X B)
section ZG7
variable {z : Nat → Nat} {k l o A B p : Nat} {X Y : hS}
theorem fch_gW (g : gW z X Y) (hI : iAll z k X) (hl : l < sn X 6) : fch Y l = fch X l := by
  unfold fch
  rw [g.1.2 3 l hl (by decide), g.2.2.2.2.2.2.2.2.2.2 l hl]
  refine List.map_congr_left (fun t ht => ?_)
  have h3 := (hI.lo l hl).2.2.2.1
  have h1 := hI.tk.1 (sT X 6 3 l).toNat (by omega) t ht
  rw [g.2.1.2 0 t.toNat (by omega) (by decide)]
theorem chl_lt (hI : iAll z k X) : ∀ i : Nat, i < sn X 6 → ∀ y ∈ fch X i, y < sn X 6 := fun i hi y hy => by
  have := hI.chl i hi y hy
  omega
theorem nT_gW (g : gW z X Y) (hI : iAll z k X) (hl : l < sn X 6) : nT Y l = nT X l :=
  tN_cg (N := sn X 6) (fun i hi => fch_gW g hI hi) (chl_lt hI) 100 l hl
theorem iw_gW (g : gW z X Y) (hI : iAll z k X) {x : Nat} (hl : l < sn X 6) : iw (fch Y) 100 x l = iw (fch X) 100 x l := by
  unfold iw
  rw [tWalk_cg (N := sn X 6) (fun i hi => fch_gW g hI hi) (chl_lt hI) 100 x l hl]
theorem ptL_gW (g : gW z X Y) (hI : iAll z k X) (hl : l < sn X 6) : ptL Y l = ptL X l := by
  unfold ptL
  rw [fPnum_gW g hI.lo hI.pt hl]
theorem sA_gW (g : gW z X Y) (hI : iAll z k X) : sA X A ≤ sA Y A := by
  unfold sA pS
  refine Nat.le_trans (Nat.le_of_eq ?_) (ns_up g.1.1)
  refine ns_cg (fun l hl => ?_)
  rw [ptL_gW g hI hl, nT_gW g hI hl]
theorem cT_le_gW (g : gW z X Y) (hI : iAll z k X) : cT X A B ≤ cT Y A B := by
  unfold cT
  by_cases hA : A < np X
  · have hAY : A < np Y := Nat.lt_of_lt_of_le hA g.2.2.2.2.2.2.1.1
    rw [if_pos hA, if_pos hAY]
    unfold cL cP
    have ePc : fPc Y A = fPc X A := g.2.2.2.2.2.2.1.2 A hA
    rw [ePc]
    by_cases hev : fPc X A % 2 = 0
    · rw [if_pos hev, if_pos hev]
      rcases hI.pt.pc hA with ⟨q1, q2, q3⟩ | ⟨q1, q2, q3⟩
      · obtain ⟨ys, hy⟩ := g.2.2.2.2.2.2.2.1 _ q2
        rw [hy, List.map_append, List.count_append]
        have e : (sE X 24 (fPc X A / 2)).map (fun j => (sT Y 4 0 j.toNat).toNat) = (sE X 24 (fPc X A / 2)).map (fun j => (sT X 4 0 j.toNat).toNat) := List.map_congr_left (fun j hj => by
          have h1 := hI.pt.2.2.2.2.2.1 _ q2 j hj
          rw [g.2.2.2.1.2 0 j.toNat (by omega)])
        rw [e]
        exact Nat.le_add_right _ _
      · omega
    · rw [if_neg hev, if_neg hev]
      exact Nat.le_refl _
  · rw [if_neg hA]; exact Nat.zero_le _
theorem EWs_gW (g : gW z X Y) (hI : iAll z k X) : EWs X p ≤ EWs Y p := ns_le (fun B _ => Nat.mul_le_mul (cT_le_gW g hI) (sA_gW g hI))
theorem ndd_gW (g : gW z X Y) (hI : iAll z k X) (h : ndd X B = true) : ndd Y B = true := by
  unfold ndd at h ⊢
  rw [List.any_eq_true] at h ⊢
  obtain ⟨A, h1, h2⟩ := h
  have h2 := of_decide_eq_true h2
  have hA := List.mem_range.mp h1
  have := cT_le_gW (A := A) (B := B) g hI
  exact ⟨A, List.mem_range.mpr (Nat.lt_of_lt_of_le hA g.2.2.2.2.2.2.1.1), decide_eq_true (by omega)⟩
theorem PW_gW (g : gW z X Y) (hI : iAll z k X) : PW X ≤ PW Y := by
  refine Nat.le_trans ?_ (ns_up g.1.1)
  refine ns_le (fun l hl => ?_)
  by_cases h : ndd X (ptL X l) = true
  · rw [if_pos h, ptL_gW g hI hl, if_pos (ndd_gW g hI h), nT_gW g hI hl]
    exact Nat.le_refl _
  · rw [if_neg h]; exact Nat.zero_le _
theorem range_sum_le {f : Nat → Nat} {m n : Nat} (h : m ≤ n) : ((List.range m).map f).sum ≤ ((List.range n).map f).sum := by
  rw [sum_range, sum_range]
  exact ns_up h
theorem inn_gW (g : gW z X Y) (hI : iAll z k X) {x : Nat} (hl : l < sn X 6) : inn (fch Y) 100 x l = inn (fch X) 100 x l := by
  unfold inn
  rw [tHas_cg (N := sn X 6) (fun i hi => fch_gW g hI hi) (chl_lt hI) 100 x l hl]
theorem lW_gW (g : gW z X Y) (hI : iAll z k X) {x : Nat} : ∀ R : List Nat, (∀ r ∈ R, r < sn X 6) → lW (fch Y) 100 x R = lW (fch X) 100 x R
  | [], _ => rfl
  | r :: R, h => by
    have h6 := h r List.mem_cons_self
    rw [lW_cons, lW_cons, iw_gW g hI h6, inn_gW g hI h6, lW_gW g hI R (fun w hw => h w (List.mem_cons_of_mem _ hw))]
theorem FW_gW (g : gW z X Y) (hI : iAll z k X) : FW X ≤ FW Y := by
  refine Nat.le_trans ?_ (ns_up g.2.2.1.1)
  refine ns_le (fun o ho => ?_)
  by_cases h5 : sT X 8 7 o = (z 5 : Nat)
  · rw [fDv_gW g hI ho (g.2.2.2.2.2.2.2.2.2.1 o ho h5)]
    have hr : ∀ r ∈ ofs (fDv X o), r < sn X 6 := fun r hr => by
      obtain ⟨e, he, rfl⟩ := List.mem_map.mp hr
      have := fDv_at hI ho e he
      omega
    have e : (allL X).map (fun x => lW (fch Y) 100 x (ofs (fDv X o))) = (allL X).map (fun x => lW (fch X) 100 x (ofs (fDv X o))) := List.map_congr_left (fun x _ => lW_gW g hI _ hr)
    rw [← e]
    exact range_sum_le g.1.1
  · have e0 : fDv X o = [] := by
      unfold fDv
      rw [(hI.em o ho).2.1 h5]; rfl
    rw [e0]
    have : ∀ U : List Nat, (U.map (fun x => lW (fch X) 100 x (ofs []))).sum = 0 := by
      intro U
      induction U with
      | nil => rfl
      | cons x U ih => rw [List.map_cons, List.sum_cons, ih]; rfl
    rw [this]
    exact Nat.zero_le _
end ZG7
