/-! THE ACCOUNT: a part's promised orders are a flow into its components; holds below the structure -/
set_option maxRecDepth 100000
section ZG10
variable {z : Nat → Nat} {k l o p B : Nat} {X : hS}
theorem prM_zero (hI : iAll z k X) (hM : iMd X) (hC : iCk X) (hp : p < np X) {y : Nat} (hy : ¬ (ptL X y < p ∧ 0 < cT X p (ptL X y))) : prM z X p y = 0 := by
  unfold prM
  refine (ns_cg (g := fun _ => 0) (fun o ho => ?_)).trans (ns_zero _)
  by_cases h : prp z X p o = true
  · rw [if_pos h]
    refine List.count_eq_zero.mpr (fun hm => hy ?_)
    obtain ⟨e, he, rfl⟩ := List.mem_map.mp hm
    exact ent_comp hI hp ho (of_decide_eq_true h).2 hM hC he
  · rw [if_neg h]
theorem prM_sum : ns (sn X 6) (fun y => prM z X p y * nT X y) = ns (sn X 6) (fun y => ns (sn X 8) (fun o => (if prp z X p o = true then (ofs (fTl X o)).count y else 0) * nT X y)) := ns_cg (fun y _ => by
  unfold prM
  rw [Nat.mul_comm, ← ns_mul]
  exact ns_cg (fun o _ => Nat.mul_comm _ _))
theorem prom_loads (hI : iAll z k X) : ns (sn X 8) (fun o => if prp z X p o = true then ((ofs (fTl X o)).map (nT X)).sum else 0) = ns (sn X 6) (fun y => prM z X p y * nT X y) := by
  rw [prM_sum, ns_swap]
  refine ns_cg (fun o ho => ?_)
  by_cases h : prp z X p o = true
  · rw [if_pos h, ns_mapsum (n := sn X 6) (ofs (fTl X o)) (fun x hx => by
      obtain ⟨e, he, rfl⟩ := List.mem_map.mp hx
      have := fTl_at hI ho e he
      omega)]
    exact ns_cg (fun y _ => by rw [if_pos h])
  · rw [if_neg h]
    refine ((ns_cg (g := fun _ => 0) (fun y _ => ?_)).trans (ns_zero _)).symm
    rw [if_neg h, Nat.zero_mul]
theorem prM_tot (hI : iAll z k X) (hM : iMd X) (hC : iCk X) (hp : p < np X) (B : Nat) : pS (sn X 6) (ptL X) B (fun _ => true) (prM z X p) ≤ (bL X B - 1) * prN z X p + cT X p B * prN z X p := by
  have h1 : pS (sn X 6) (ptL X) B (fun _ => true) (prM z X p) = ns (sn X 8) (fun o => pS (sn X 6) (ptL X) B (fun _ => true) (fun y => if prp z X p o = true then (ofs (fTl X o)).count y else 0)) := pS_ns (F := fun y o => if prp z X p o = true then (ofs (fTl X o)).count y else 0)
  rw [h1, ← Nat.add_mul]
  unfold prN
  rw [← ns_mul]
  refine ns_le (fun o ho => ?_)
  by_cases h : prp z X p o = true
  · rw [if_pos h, Nat.mul_one, Nat.add_comm]
    refine Nat.le_trans (Nat.le_of_eq ?_) (ent_cnt hI hp ho (of_decide_eq_true h).2 hM hC B)
    have := ns_cnt (P := fun l => ptL X l = B) (n := sn X 6) (ofs (fTl X o)) (fun x hx => by
      obtain ⟨e, he, rfl⟩ := List.mem_map.mp hx
      have := fTl_at hI ho e he
      omega)
    unfold ofs at this ⊢
    rw [List.map_map] at this
    refine Eq.trans ?_ this
    unfold pS
    refine ns_cg (fun y _ => ?_)
    by_cases w : ptL X y = B
    · rw [if_pos ⟨w, rfl⟩, if_pos w]
      exact if_pos h
    · rw [if_neg (fun q => w q.1), if_neg w]
  · rw [if_neg h, Nat.mul_zero]
    refine Nat.le_of_eq ?_
    unfold pS
    refine (ns_cg (g := fun _ => 0) (fun y _ => ?_)).trans (ns_zero _)
    have e : (fun y => if prp z X p o = true then (ofs (fTl X o)).count y else 0) y = 0 := if_neg h
    rw [e]
    split <;> rfl
/-- a part's promised orders: below the structure's number -/
theorem prom_ho (hI : iAll z k X) (hR : iRn z X) (hp : p < np X) : ns (sn X 8) (fun o => if prp z X p o = true then ((ofs (fTl X o)).map (nT X)).sum else 0) ≤ ho (cT X) (bL X) (capL X) p (prN z X p) := by
  obtain ⟨⟨hD, hL, hC⟩, hM, -⟩ := hR
  rw [prom_loads hI, ns_parts (pt := ptL X) (m := p) (fun y hy h0 => Decidable.byContradiction (fun w => h0 (by rw [prM_zero hI hM hC hp (fun q => w q.1), Nat.zero_mul]))), ho_rec]
  refine ns_le (fun B hB => ?_)
  have e0 : ns (sn X 6) (fun y => if ptL X y = B then prM z X p y * nT X y else 0) = pS (sn X 6) (ptL X) B (fun _ => true) (fun y => prM z X p y * nT X y) := by
    unfold pS
    refine ns_cg (fun y _ => ?_)
    by_cases w : ptL X y = B
    · rw [if_pos w, if_pos ⟨w, rfl⟩]
    · rw [if_neg w, if_neg (fun q => w q.1)]
  rw [e0]
  by_cases hc : 0 < cT X p B ∧ 0 < bL X B
  · rw [if_pos hc]
    have hq : ∀ V : Nat → Bool, pS (sn X 6) (ptL X) B V (prM z X p) ≤ pS (sn X 6) (ptL X) B V (qL X) := fun V => pS_le (fun y hy _ _ => prM_q hI hy)
    have hcap := (flT hI hL hC).2.2.2 B
    have ht := prM_tot (z := z) hI hM hC hp B
    have h := flowX (A := B) hI hL hC (prM z X p) ((bL X B - 1) * prN z X p) (min (cT X p B * prN z X p) (capL X B)) (fun V => Nat.le_trans (hq V) (Nat.le_add_left _ _)) (by
      have h1 := hq (fun _ => true)
      generalize pS (sn X 6) (ptL X) B (fun _ => true) (prM z X p) = P at *
      generalize pS (sn X 6) (ptL X) B (fun _ => true) (qL X) = Q at *
      generalize (bL X B - 1) * prN z X p = N1 at *
      generalize cT X p B * prN z X p = N2 at *
      have hcap : Q ≤ capL X B := hcap
      omega)
    refine Nat.le_trans h ?_
    rw [Nat.mul_comm (1 + ao (cT X) (bL X) B)]
    exact Nat.le_refl _
  · refine Nat.le_trans (Nat.le_of_eq ?_) (Nat.zero_le _)
    unfold pS
    refine (ns_cg (g := fun _ => 0) (fun y hy => ?_)).trans (ns_zero _)
    by_cases w : ptL X y = B
    · have hb := bL_pos (X := X) hy
      rw [w] at hb
      rw [if_pos ⟨w, rfl⟩]
      show prM z X p y * nT X y = 0
      rw [prM_zero hI hM hC hp (fun q => hc ⟨by rw [← w]; exact q.2, by omega⟩), Nat.zero_mul]
    · rw [if_neg (fun q => w q.1)]
/-- all promised orders, part by part -/
theorem prW_parts (hI : iAll z k X) (hR : iRn z X) : ns (sn X 8) (fun o => prW z X o) ≤ ns (np X) (fun p => ho (cT X) (bL X) (capL X) p (prN z X p)) := by
  refine Nat.le_trans ?_ (ns_le (fun p hp => prom_ho hI hR hp))
  rw [ns_swap]
  refine ns_le (fun o ho => ?_)
  obtain ⟨p, hp, e1⟩ := (hI.or o ho).2.1
  unfold prW
  by_cases h : sT X 8 7 o = (z 1 : Nat)
  · rw [if_pos h]
    refine Nat.le_trans ?_ (ns_ge (f := fun p => if prp z X p o = true then ((ofs (fTl X o)).map (nT X)).sum else 0) hp)
    have : prp z X p o = true := decide_eq_true ⟨h, e1⟩
    show _ ≤ if prp z X p o = true then _ else 0
    rw [if_pos this]
    exact Nat.le_refl _
  · rw [if_neg h]; exact Nat.zero_le _
end ZG10
